set_option maxRecDepth 100000
/-! the twin: a line of questions -/
def as_cell (kind r1 r2 : Int) (ws : List Int) (i : Nat) : Int := if i = 0 then kind else if 3 ≤ i then ws.getD (i - 3) 0 else if i = 1 then r1 else r2
def as_row (A : Nat → Int) (k : Int) (c : Nat → Int) (n : Nat) : Nat → Int := upto n (fun i B => g_set B (1 + 7 * k + (i : Nat)) (c i)) A
def as_A (A : Nat → Int) (kind r1 r2 : Int) (ws : List Int) : Nat → Int := g_set (if 8 ≤ A 0 then A else as_row A (A 0) (as_cell kind r1 r2 ws) 7) 0 (min 8 (A 0 + 1))
def as_end (A : Nat → Int) (kind : Int) : as_T → ln_T
  | .inl p => .inl p
  | .inr (q, f, r1, r2, ws) => .inr (q, f, as_A A kind r1 r2 ws)
def as_ln (T : Nat → Int) (L : Int) (w : Int64) (A : Nat → Int) (q : Nat) (f : Int × Int) : ln_T := if as_by w = -1 then .inl q else as_end A (as_by w) (as_read T L (as_by w) (A 0) (k_go T L q) (tl_f A f q))
theorem as_row_at {A : Nat → Int} {k : Int} {c : Nat → Int} (hk : 0 ≤ k) : ∀ (n j : Nat), as_row A k c n j = if 1 + 7 * k ≤ j ∧ (j : Int) < 1 + 7 * k + n then c (j - (1 + 7 * k).toNat) else A j := by
  intro n
  induction n with
  | zero => intro j; rw [if_neg (by omega)]; rfl
  | succ n ih =>
    intro j
    show g_set (as_row A k c n) (1 + 7 * k + (n : Nat)) (c n) j = _
    by_cases h : j = (1 + 7 * k + (n : Nat)).toNat
    · rw [h, g_set_at, if_pos (by omega)]
      congr 1
      omega
    · rw [g_set_ne h, ih j]
      by_cases h2 : 1 + 7 * k ≤ j ∧ (j : Int) < 1 + 7 * k + n
      · rw [if_pos h2, if_pos (by omega)]
      · rw [if_neg h2, if_neg (by omega)]
def as_ok (A : Nat → Int) (f : Int × Int) : Prop := (0 ≤ A 0 ∧ A 0 ≤ 8) ∧ (f.1 = 0 → q_ok A 0)
/-- what was read, if all of it can be -/
def as_fit (L own kind : Int) (f : Int × Int) : as_T → Prop
  | .inl p => (p : Int) ≤ L
  | .inr (q', f', r1, r2, ws) => (q' : Int) ≤ L ∧ f_ok f' ∧ (f'.1 = 0 → f.1 = 0 ∧ (-1 ≤ r1 ∧ r1 ≤ 99) ∧ (-1 ≤ r2 ∧ r2 ≤ 99) ∧ (∀ w ∈ ws, 1 ≤ w ∧ w < 531441) ∧ (kind = 0 → 1 ≤ r1 ∧ r1 ≤ 4) ∧ (kind = 1 ∨ kind = 2 → 1 ≤ r1 ∧ r1 ≤ 9) ∧ (3 ≤ kind → 0 ≤ r1 ∧ r1 < own) ∧ (6 ≤ kind → 0 ≤ r2 ∧ r2 < own))
theorem as_one_fit {T : Nat → Int} {L own kind lo hi : Int} {q : Nat} {f0 f : Int × Int} {ws : List Int} (hl : 0 ≤ L ∧ L ≤ 600) (hq : (q : Int) ≤ L) (hf : f_ok f) (h0 : f.1 = 0 → f0.1 = 0 ∧ ∀ w ∈ ws, 1 ≤ w ∧ w < 531441) (hk0 : kind ≠ 0) (hk6 : kind < 6) (h12 : kind = 1 ∨ kind = 2 → 1 ≤ lo ∧ hi ≤ 9) (h3 : 3 ≤ kind → 0 ≤ lo ∧ hi < own) : as_fit L own kind f0 (as_one T L lo hi q f ws) := by
  have hgo := k_go_le (T := T) (L := L) (q := q) hq
  unfold as_one
  split
  · rename_i hs
    have hv := k_val_r hs
    refine ⟨hgo.2.1, r_tkF_ok hf (by omega), fun h => ?_⟩
    obtain ⟨y1, y2⟩ := r_tkF_0 h
    obtain ⟨y3, y4⟩ := h0 y2
    have y5 := k_in_r y1
    exact ⟨y3, ⟨by omega, by omega⟩, ⟨by omega, by omega⟩, y4, fun h => absurd h hk0, fun h => by have := h12 h; omega, fun h => by have := h3 h; omega, fun h => by omega⟩
  · exact hq
theorem r_wd_fit {T : Nat → Int} {L : Int} {q : Nat} {f0 f : Int × Int} {ws : List Int} (hs : k_sort T L q = 2) (h0 : f.1 = 0 → f0.1 = 0 ∧ ∀ w ∈ ws, 1 ≤ w ∧ w < 531441) (h : (r_wdF T L q f).1 = 0) : f0.1 = 0 ∧ ∀ w ∈ ws ++ [k_num T L q], 1 ≤ w ∧ w < 531441 := by
  obtain ⟨y1, y2⟩ := r_wdF_0 h
  obtain ⟨y3, y4⟩ := h0 y2
  refine ⟨y3, fun w hw => ?_⟩
  rcases List.mem_append.mp hw with hw | hw
  · exact y4 w hw
  · rw [List.mem_singleton.mp hw]
    exact (k_num_ok hs y1).2
theorem as_read_fit {T : Nat → Int} {L own kind : Int} {q : Nat} {f : Int × Int} (hl : 0 ≤ L ∧ L ≤ 600) (hq : (q : Int) ≤ L) (hf : f_ok f) (hk : 0 ≤ kind ∧ kind ≤ 7) : as_fit L own kind f (as_read T L kind own q f) := by
  have hgo := k_go_le (T := T) (L := L) (q := q) hq
  have hgo2 := k_go_le (T := T) (L := L) (q := k_go T L q) hgo.2.1
  have h0 : f.1 = 0 → f.1 = 0 ∧ ∀ w ∈ ([] : List Int), 1 ≤ w ∧ w < 531441 := fun h => ⟨h, fun w hw => by cases hw⟩
  unfold as_read
  by_cases k0 : kind = 0
  · rw [if_pos k0]
    unfold as_phrase
    split
    · rename_i hs
      have hwq := r_wsq (T := T) (L := L) (most := 4) 601 (k_go T L q) 1 (r_wdF T L q f) (true && k_few T L q) hgo.2.1
      have hwf := r_wsf (T := T) (L := L) (most := 4) hl.2 601 (k_go T L q) 1 (r_wdF T L q f) (true && k_few T L q) hgo.2.1 (r_wdF_ok hf (by omega))
      have hw0 := r_ws0 (T := T) (L := L) (most := 4) 601 (k_go T L q) 1 (r_wdF T L q f) (true && k_few T L q)
      refine ⟨hwq.2.1, hwf, fun h => ?_⟩
      obtain ⟨u1, u2, u3, u4⟩ := hw0 h
      obtain ⟨y1, y2⟩ := r_wdF_0 u1
      have hlen : 1 + ((r_wsF T L 4 601 (k_go T L q) 1 (r_wdF T L q f) (true && k_few T L q)).2.2.2.length : Int) ≤ 4 := by
        rcases u2 with h | h
        · rw [h, List.length_nil]; omega
        · omega
      refine ⟨y2, ⟨by omega, by omega⟩, ⟨by omega, by omega⟩, fun w hw => ?_, fun _ => ⟨by omega, hlen⟩, fun h => by omega, fun h => by omega, fun h => by omega⟩
      rcases List.mem_cons.mp hw with rfl | hw
      · exact (k_num_ok hs y1).2
      · exact u4 w hw
    · exact hq
  · rw [if_neg k0]
    by_cases k1 : kind = 1
    · rw [if_pos k1]
      unfold as_near
      split
      · rename_i hs
        split
        · rename_i hs2
          refine as_one_fit hl hgo2.2.1 (r_wdF_ok (r_wdF_ok hf (by omega)) (by omega)) (fun h => ?_) k0 (by omega) (fun _ => ⟨by omega, by omega⟩) (fun h => by omega)
          exact r_wd_fit hs2 (r_wd_fit hs h0) h
        · exact hgo.2.1
      · exact hq
    · rw [if_neg k1]
      by_cases k2 : kind = 2
      · rw [if_pos k2]
        unfold as_many
        split
        · rename_i hs
          exact as_one_fit hl hgo.2.1 (r_wdF_ok hf (by omega)) (fun h => r_wd_fit hs h0 h) k0 (by omega) (fun _ => ⟨by omega, by omega⟩) (fun h => by omega)
        · exact hq
      · rw [if_neg k2]
        by_cases k6 : kind = 6 ∨ kind = 7
        · rw [if_pos k6]
          unfold as_two
          split
          · rename_i hs
            split
            · rename_i hs2
              have hv := k_val_r hs
              have hv2 := k_val_r hs2
              refine ⟨hgo2.2.1, r_tkF_ok (r_tkF_ok hf (by omega)) (by omega), fun h => ?_⟩
              obtain ⟨y1, y2⟩ := r_tkF_0 h
              obtain ⟨y3, y4⟩ := r_tkF_0 y2
              have z1 := k_in_r y1
              have z2 := k_in_r y3
              exact ⟨y4, ⟨by omega, by omega⟩, ⟨by omega, by omega⟩, fun w hw => (by cases hw), fun h => by omega, fun h => by omega, fun _ => ⟨by omega, by omega⟩, fun _ => ⟨by omega, by omega⟩⟩
            · exact hgo.2.1
          · exact hq
        · rw [if_neg k6]
          exact as_one_fit hl hq hf h0 k0 (by omega) (fun h => by omega) (fun _ => ⟨by omega, by omega⟩)
theorem as_len {T : Nat → Int} {L own kind : Int} {q : Nat} {f : Int × Int} (hl : 0 ≤ L ∧ L ≤ 600) (hq : (q : Int) ≤ L) : match as_read T L kind own q f with | .inl _ => True | .inr (_, _, _, _, ws) => ws.length ≤ 601 := by
  have hgo := k_go_le (T := T) (L := L) (q := q) hq
  have one : ∀ (lo hi : Int) (q : Nat) (f : Int × Int) (ws : List Int), ws.length ≤ 601 → match as_one T L lo hi q f ws with | .inl _ => True | .inr (_, _, _, _, ws) => ws.length ≤ 601 := by
    intro lo hi q f ws h
    unfold as_one
    by_cases h1 : k_sort T L q = 3
    · rw [if_pos h1]; exact h
    · rw [if_neg h1]; trivial
  unfold as_read
  by_cases k0 : kind = 0
  · rw [if_pos k0]
    unfold as_phrase
    by_cases h1 : k_sort T L q = 2
    · rw [if_pos h1]
      have hwq := r_wsq (T := T) (L := L) (most := 4) 601 (k_go T L q) 1 (r_wdF T L q f) (true && k_few T L q) hgo.2.1
      show (r_wsF T L 4 601 (k_go T L q) 1 (r_wdF T L q f) (true && k_few T L q)).2.2.2.length + 1 ≤ 601
      by_cases h2 : (r_wsF T L 4 601 (k_go T L q) 1 (r_wdF T L q f) (true && k_few T L q)).2.2.2 = []
      · rw [h2, List.length_nil]; omega
      · have := (hwq.2.2 h2).2
        omega
    · rw [if_neg h1]; trivial
  · rw [if_neg k0]
    by_cases k1 : kind = 1
    · rw [if_pos k1]
      unfold as_near
      by_cases h1 : k_sort T L q = 2
      · rw [if_pos h1]
        by_cases h2 : k_sort T L (k_go T L q) = 2
        · rw [if_pos h2]; exact one _ _ _ _ _ (by show 2 ≤ 601; omega)
        · rw [if_neg h2]; trivial
      · rw [if_neg h1]; trivial
    · rw [if_neg k1]
      by_cases k2 : kind = 2
      · rw [if_pos k2]
        unfold as_many
        by_cases h1 : k_sort T L q = 2
        · rw [if_pos h1]; exact one _ _ _ _ _ (by show 1 ≤ 601; omega)
        · rw [if_neg h1]; trivial
      · rw [if_neg k2]
        by_cases k6 : kind = 6 ∨ kind = 7
        · rw [if_pos k6]
          unfold as_two
          by_cases h1 : k_sort T L q = 3
          · rw [if_pos h1]
            by_cases h2 : k_sort T L (k_go T L q) = 3
            · rw [if_pos h2]; exact Nat.zero_le _
            · rw [if_neg h2]; trivial
          · rw [if_neg h1]; trivial
        · rw [if_neg k6]; exact one _ _ _ _ _ (Nat.zero_le _)
theorem as_ln_ok {T : Nat → Int} {L : Int} {w : Int64} {A : Nat → Int} {q : Nat} {f : Int × Int} (hl : 0 ≤ L ∧ L ≤ 600) (hq : (q : Int) ≤ L) (hA : as_ok A f) (hf : f_ok f) : match as_ln T L w A q f with | .inl p => (p : Int) ≤ L | .inr (q', f', A') => (q' : Int) ≤ L ∧ f_ok f' ∧ as_ok A' f' := by
  have hgo := k_go_le (T := T) (L := L) (q := q) hq
  have hkr := as_by_r w
  unfold as_ln
  by_cases hb : as_by w = -1
  · rw [if_pos hb]
    exact hq
  · rw [if_neg hb]
    have hfit := as_read_fit (T := T) (L := L) (own := A 0) (kind := as_by w) (f := tl_f A f q) hl hgo.2.1 (tl_f_ok hf (by omega)) ⟨by omega, hkr.2⟩
    generalize hkind : as_by w = kind at *
    rcases hres : as_read T L kind (A 0) (k_go T L q) (tl_f A f q) with p | ⟨q', f', r1, r2, ws⟩
    · rw [hres] at hfit
      exact hfit
    · rw [hres] at hfit
      obtain ⟨y1, y2, y3⟩ := hfit
      refine ⟨y1, y2, ?_, fun h0 => ?_⟩
      · show 0 ≤ as_A A kind r1 r2 ws (Int.toNat 0) ∧ as_A A kind r1 r2 ws (Int.toNat 0) ≤ 8
        unfold as_A
        rw [g_set_at]
        have := hA.1
        omega
      · obtain ⟨z1, z2, z3, z4, z5, z6, z7, z8⟩ := y3 h0
        have hn : A 0 ≠ 8 ∧ f.1 = 0 := by
          unfold tl_f at z1
          split at z1
          · exact absurd z1 (addsF_ne (by omega))
          · exact ⟨by assumption, z1⟩
        have hA1 := hA.1
        obtain ⟨x1, x2, x3⟩ := hA.2 hn.2
        have en : q_n (as_A A kind r1 r2 ws) 0 = A 0 + 1 := by
          show as_A A kind r1 r2 ws (Int.toNat 0) = _
          unfold as_A
          rw [g_set_at]
          omega
        have ex : q_n A 0 = A 0 := rfl
        have at9 : ∀ k i : Int, 0 ≤ k → k < 8 → 0 ≤ i → i < 7 → q_at (as_A A kind r1 r2 ws) 0 k i = if k = A 0 then as_cell kind r1 r2 ws i.toNat else q_at A 0 k i := by
          intro k i hk0 hk1 hi0 hi1
          unfold q_at as_A
          rw [g_set_ne (by omega), if_neg (by omega), as_row_at hA1.1]
          by_cases hk : k = A 0
          · rw [if_pos hk, if_pos (by omega)]
            congr 1
            omega
          · rw [if_neg hk, if_neg (by omega)]
        have cellr : ∀ i : Nat, i < 7 → -1 ≤ as_cell kind r1 r2 ws i ∧ as_cell kind r1 r2 ws i ≤ 531440 := by
          intro i hi
          unfold as_cell
          split
          · omega
          · split
            · rw [List.getD_eq_getElem?_getD]
              cases hx : ws[i - 3]? with
              | none => show -1 ≤ (0 : Int) ∧ (0 : Int) ≤ 531440; omega
              | some x =>
                have := z4 x (List.mem_of_getElem? hx)
                show -1 ≤ x ∧ x ≤ 531440
                omega
            · split <;> omega
        refine ⟨by rw [en]; omega, fun k i hk0 hk1 hi0 hi1 => ?_, fun k hk0 hk1 => ?_⟩
        · rw [at9 k i hk0 hk1 hi0 hi1]
          split
          · exact cellr i.toNat (by omega)
          · exact x2 k i hk0 hk1 hi0 hi1
        · rw [en] at hk1
          rw [at9 k 0 hk0 (by omega) (by omega) (by omega), at9 k 1 hk0 (by omega) (by omega) (by omega), at9 k 2 hk0 (by omega) (by omega) (by omega)]
          by_cases hk : k = A 0
          · rw [if_pos hk, if_pos hk, if_pos hk]
            have c0 : as_cell kind r1 r2 ws (Int.toNat 0) = kind := rfl
            have c1 : as_cell kind r1 r2 ws (Int.toNat 1) = r1 := rfl
            have c2 : as_cell kind r1 r2 ws (Int.toNat 2) = r2 := rfl
            rw [c0, c1, c2, hk]
            exact ⟨⟨by omega, hkr.2⟩, z5, z6, z7, z8⟩
          · rw [if_neg hk, if_neg hk, if_neg hk]
            exact x3 k hk0 (by rw [ex]; omega)
section
variable {E : pw_E} {w0 : pw_W} {m d : Nat} {S : tw_S} {T : Nat → Int} {L : Int}
theorem m_askingLine_ok {A : Nat → Int} {q : Nat} {f : Int × Int} {w : Int64} {K : Bool → tw_S → Prop} (hm : pw_base E ≤ m) (hd : 6 ≤ d) (hl : 0 ≤ L ∧ L ≤ 600) (hq : (q : Int) ≤ L) (h : r_at T L S q f true) (e9 : S.2.2 9 = A) (hA : 0 ≤ A 0 ∧ A 0 ≤ 8) (h21 : S.1 21 = 0) (H : ln_post T L S K (as_ln T L w A q f)) : pw_Cl E m_X2_askingLine d [va_rf (some m), .long w, .int (iI q)] (tw w0 m S) (c_z (t_b w0 m K)) := by
  obtain ⟨e, rfl, he⟩ := pw_d1 hd
  have hgo := k_go_le (T := T) (L := L) (q := q) hq
  have h11 : S.1 11 = q := h.1.2.2.1
  have hkr := as_by_r w
  have rk : rI (A 0) := rI_small (by omega) (by omega)
  refine e_X2_askingLine _ _ _ (t_X2_askingLine_0 hm _ _ (m_askingBy_ok hm (by omega) ⟨rI_small (by omega) (by omega), ?_⟩))
  unfold as_ln at H
  by_cases hb : as_by w = -1
  · rw [if_pos hb] at H
    exact ifT hb (m_fails_ok hm (by omega) ⟨false, rfl, _, rfl, H _ h11 (r_fr.sf S 15 _ rfl).l⟩)
  · rw [if_neg hb] at H
    refine ifF hb ?_
    generalize hkind : as_by w = kind at *
    have go : ∀ S1 : tw_S, r_at T L S1 q (tl_f A f q) true → r_fr S S1 → S1.2 = S.2 → S1.1 21 = 0 → pw_Cl E m_X2_token e [va_rf (some m)] (tw w0 m S1) (c_v (t_u w0 m (fun S8 => pw_Cl E m_X2_readAsking e [va_rf (some m), .int (iI kind), .int (iI (A 0))] (tw w0 m (tw_sa (tw_sa S8 10 1 (-1)) 10 2 (-1))) (c_z (t_b w0 m (fun b14 S13 => if b14 = true then pw_Wp E m_X2_askingLine (e + 1) 73 [some (va_rf (some m)), none, none, none, some (.int (iI kind)), some (.int (iI (A 0))), some (.int (iI 0))] [] (tw w0 m S13) (c_z (t_b w0 m K)) else (c_z (t_b w0 m K)) (.inl (some (.int (iI 0)))) (tw w0 m S13))))))) := by
      intro S1 hr hfr e2 h21'
      obtain ⟨⟨a1, a2, a3, a4, a5, a6, a7⟩, b12, b3, b4⟩ := hr
      refine m_token_r (q := q) hm (by omega) hl hq a1 a2 a4 b12 b3 b4 (fun S2 y1 y2 => ?_)
      have h21'' : S2.1 21 = 0 := by rw [y2.1 21 rfl]; exact h21'
      refine m_readAsking_ok hm (by omega) hl hgo.2.1 y1 ⟨by omega, hkr.2⟩ hA rfl rfl h21'' ?_
      rcases hres : as_read T L kind (A 0) (k_go T L q) (tl_f A f q) with p | ⟨q', f', r1, r2, ws⟩
      · rw [hres] at H
        intro S3 z1 z2
        rw [if_neg (by decide)]
        exact ⟨false, rfl, S3, rfl, H S3 z1 (((hfr.trans y2.r).trans ((r_fr.sa S2 10 1 _ (Or.inl rfl)).trans (r_fr.sa _ 10 2 _ (Or.inl rfl)))).trans z2).l⟩
      · rw [hres] at H
        intro S3 g z1 z2 z3 z4 z5 z6
        rw [if_pos rfl]
        have hfr3 : r_fr S S3 := ((hfr.trans y2.r).trans ((r_fr.sa S2 10 1 _ (Or.inl rfl)).trans (r_fr.sa _ 10 2 _ (Or.inl rfl)))).trans z2
        have e93 : S3.2.2 9 = A := by rw [hfr3.2 9 (by omega) (by omega)]; exact e9
        have z3 : ∀ B, (tw_set S3 9 B).2.2 10 1 = r1 := fun _ => z3
        have z4 : ∀ B, (tw_set S3 9 B).2.2 10 2 = r2 := fun _ => z4
        have z5 : ∀ B, (tw_set S3 9 B).1 21 = (ws.length : Nat) := fun _ => z5
        have z6 : ∀ B (j : Nat) (x : Int), ws[j]? = some x → (tw_set S3 9 B).2.2 11 j = x := fun _ => z6
        have hlen : ws.length ≤ 1000 ∨ True := Or.inr trivial
        have last : ∀ B : Nat → Int, as_A A kind r1 r2 ws = g_set B 0 (min 8 (A 0 + 1)) → pw_Cl E m_X2_lesser e [.int (iI 8), .int (iI (A 0 + 1))] (tw w0 m (tw_set S3 9 B)) (c_i (t_i w0 m (fun z2 S6 => (c_z (t_b w0 m K)) (.inl (some (.int (iI 1)))) (tw w0 m (tw_sa S6 9 0 z2))))) := by
          intro B hB
          refine m_lesser_ok hm (by omega) (rI_small (by omega) (by omega)) (rI_small (by omega) (by omega)) ?_
          have : tw_sa (tw_set S3 9 B) 9 0 (min 8 (A 0 + 1)) = tw_set S3 9 (g_set B 0 (min 8 (A 0 + 1))) := tw_sa9 S3 B 0 _
          rw [this, ← hB]
          refine ⟨true, rfl, _, rfl, H _ g z1 (hfr3.l.trans (l_fr.set S3 _)) ?_⟩
          rw [tw_set_at]
        rw [tw_self9 e93]
        by_cases h8 : 8 ≤ A 0
        · refine t_X2_askingLine_73 hm _ _ _ ⟨rI_small (by omega) (by omega), ifF (by omega) ⟨rk, ifT h8 (last A ?_)⟩⟩
          unfold as_A
          rw [if_pos h8]
        · have hlw : (tw_set S3 9 A).1 21 = (ws.length : Nat) := z5 A
          have hws : ws.length < 2147483648 ∨ ¬ ws.length < 2147483648 := by omega
          refine loop_up (n := 7) (P := fun i => pw_Wp E m_X2_askingLine (e + 1) 73 [some (va_rf (some m)), none, none, none, some (.int (iI kind)), some (.int (iI (A 0))), some (.int (iI i))] [] (tw w0 m (tw_set S3 9 (as_row A (A 0) (as_cell kind r1 r2 ws) i))) (c_z (t_b w0 m K))) ?_ ?_ 0 (by omega)
          · intro i hi ih
            have ih : ∀ x, x = as_cell kind r1 r2 ws i → pw_Wp E m_X2_askingLine (e + 1) 73 [some (va_rf (some m)), none, none, none, some (.int (iI kind)), some (.int (iI (A 0))), some (.int (iI ((i : Int) + 1)))] [] (tw w0 m (tw_sa (tw_set S3 9 (as_row A (A 0) (as_cell kind r1 r2 ws) i)) 9 (Int.toNat (1 + 7 * A 0 + (i : Int))) x)) (c_z (t_b w0 m K)) := by
              intro x hx
              rw [tw_sa9, hx]
              exact ih
            have ir : rI (i : Int) := rI_small (by omega) (by omega)
            refine t_X2_askingLine_73 hm _ _ _ ⟨ir, ifF (by omega) ⟨rk, ifF h8 ⟨ir, ?_⟩⟩⟩
            by_cases i0 : i = 0
            · refine ifT (by omega) ⟨by omega, by omega, ih _ ?_⟩
              unfold as_cell
              rw [if_pos i0]
            · refine ifF (by omega) ⟨ir, ?_⟩
              by_cases i3 : 3 ≤ i
              · refine ifT (by omega) ⟨?_, rI_small (by omega) (by omega), ?_⟩
                · rw [z5]
                  have hq3 : f_ok f' := z1.2.2.2
                  have hwl : ws.length ≤ 601 := by
                    have hLL : (2 : Nat) ≤ 2 := Nat.le_refl 2
                    have := as_len (T := T) (L := L) (kind := kind) (own := A 0) (f := tl_f A f q) hl hgo.2.1
                    rw [hres] at this
                    exact this
                  exact rI_small (by omega) (by omega)
                · rw [z5]
                  by_cases hlt : (ws.length : Int) ≤ (i : Int) - 3
                  · refine ifT hlt ⟨by omega, by omega, ih _ ?_⟩
                    unfold as_cell
                    rw [if_neg i0, if_pos i3, List.getD_eq_getElem?_getD, List.getElem?_eq_none (by omega)]
                    rfl
                  · refine ifF hlt ⟨by omega, by omega, by omega, by omega, ?_⟩
                    have hx : ws[i - 3]? = some ws[i - 3] := List.getElem?_eq_getElem (by omega)
                    have en : Int.toNat ((i : Int) - 3) = i - 3 := by omega
                    rw [en, z6 _ _ _ hx]
                    refine ih _ ?_
                    unfold as_cell
                    rw [if_neg i0, if_pos i3, List.getD_eq_getElem?_getD, hx]
                    rfl
              · refine ifF (by omega) ⟨by omega, by omega, by omega, by omega, ?_⟩
                have en : Int.toNat (i : Int) = i := by omega
                rw [en]
                by_cases i1 : i = 1
                · subst i1
                  rw [z3]
                  exact ih _ rfl
                · have i2 : i = 2 := by omega
                  subst i2
                  rw [z4]
                  exact ih _ rfl
          · refine t_X2_askingLine_73 hm _ _ _ ⟨rI_small (by omega) (by omega), ifT (by omega) (last _ ?_)⟩
            unfold as_A
            rw [if_neg h8]
    rw [e9]
    refine ⟨rk, ?_⟩
    by_cases h8 : A 0 = 8
    · refine ifT h8 (m_adds_r hm (by omega) h ⟨by omega, by omega⟩ ⟨by omega, by omega⟩ (fun S1 y1 y2 y3 y4 => go S1 ?_ y2 y3 (by rw [y4 21 (by omega) (by omega)]; exact h21)))
      unfold tl_f
      rw [if_pos h8]
      exact y1
    · refine ifF h8 (go S ?_ (r_fr.refl S) rfl h21)
      unfold tl_f
      rw [if_neg h8]
      exact h
end
