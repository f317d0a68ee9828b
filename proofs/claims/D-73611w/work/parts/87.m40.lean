set_option maxRecDepth 100000
/-! the twin: a question is read -/
def as_by (w : Int64) : Int := if w = 123593897898853 then 0 else if w = 1852137842 then 1 else if w = 1835101817 then 2 else if w = 7237492 then 3 else if w = 1702258034 then 4 else if w = 7234935 then 5 else if w = 6385252 then 6 else if w = 28530 then 7 else -1
theorem as_by_r (w : Int64) : -1 ≤ as_by w ∧ as_by w ≤ 7 := by
  unfold as_by
  split
  · omega
  · split
    · omega
    · split
      · omega
      · split
        · omega
        · split
          · omega
          · split
            · omega
            · split
              · omega
              · split <;> omega
abbrev as_T := Nat ⊕ (Nat × (Int × Int) × Int × Int × List Int)
def as_phrase (T : Nat → Int) (L : Int) (q : Nat) (f : Int × Int) : as_T := if k_sort T L q = 2 then .inr ((r_wsF T L 4 601 (k_go T L q) 1 (r_wdF T L q f) (true && k_few T L q)).1, (r_wsF T L 4 601 (k_go T L q) 1 (r_wdF T L q f) (true && k_few T L q)).2.1, 1 + ((r_wsF T L 4 601 (k_go T L q) 1 (r_wdF T L q f) (true && k_few T L q)).2.2.2.length : Nat), -1, k_num T L q :: (r_wsF T L 4 601 (k_go T L q) 1 (r_wdF T L q f) (true && k_few T L q)).2.2.2) else .inl q
def as_one (T : Nat → Int) (L lo hi : Int) (q : Nat) (f : Int × Int) (ws : List Int) : as_T := if k_sort T L q = 3 then .inr (k_go T L q, r_tkF T L q lo hi f, k_val T L q, -1, ws) else .inl q
def as_near (T : Nat → Int) (L : Int) (q : Nat) (f : Int × Int) : as_T := if k_sort T L q = 2 then (if k_sort T L (k_go T L q) = 2 then as_one T L 1 9 (k_go T L (k_go T L q)) (r_wdF T L (k_go T L q) (r_wdF T L q f)) [k_num T L q, k_num T L (k_go T L q)] else .inl (k_go T L q)) else .inl q
def as_many (T : Nat → Int) (L : Int) (q : Nat) (f : Int × Int) : as_T := if k_sort T L q = 2 then as_one T L 1 9 (k_go T L q) (r_wdF T L q f) [k_num T L q] else .inl q
def as_two (T : Nat → Int) (L own : Int) (q : Nat) (f : Int × Int) : as_T := if k_sort T L q = 3 then (if k_sort T L (k_go T L q) = 3 then .inr (k_go T L (k_go T L q), r_tkF T L (k_go T L q) 0 (own - 1) (r_tkF T L q 0 (own - 1) f), k_val T L q, k_val T L (k_go T L q), []) else .inl (k_go T L q)) else .inl q
def as_read (T : Nat → Int) (L kind own : Int) (q : Nat) (f : Int × Int) : as_T := if kind = 0 then as_phrase T L q f else if kind = 1 then as_near T L q f else if kind = 2 then as_many T L q f else if kind = 6 ∨ kind = 7 then as_two T L own q f else as_one T L 0 (own - 1) q f []
def as_post (T : Nat → Int) (L : Int) (S : tw_S) (K : Bool → tw_S → Prop) : as_T → Prop
  | .inl p => ∀ S' : tw_S, S'.1 15 = (p : Int) → r_fr S S' → K false S'
  | .inr (q, f, r1, r2, ws) => ∀ (S' : tw_S) (g : Bool), r_at T L S' q f g → r_fr S S' → S'.2.2 10 1 = r1 → S'.2.2 10 2 = r2 → S'.1 21 = (ws.length : Nat) → (∀ (j : Nat) (x : Int), ws[j]? = some x → S'.2.2 11 j = x) → K true S'
section
variable {E : pw_E} {w0 : pw_W} {m d : Nat} {S : tw_S} {T : Nat → Int} {L : Int}
theorem m_askingBy_ok {w : Int64} {K : Int → tw_S → Prop} (hm : pw_base E ≤ m) (hd : 1 ≤ d) (H : K (as_by w) S) : pw_Cl E m_X2_askingBy d [va_rf (some m), .long w] (tw w0 m S) (c_i (t_i w0 m K)) := by
  obtain ⟨e, rfl, he⟩ := pw_d1 hd
  refine e_X2_askingBy _ _ (t_X2_askingBy_0 hm _ ?_)
  have st : ∀ (c : Int64) {A B : Prop} {x y : Int}, K (if w = c then x else y) S → (K x S → A) → (K y S → B) → if Int32.toInt (lg_cmp w c) = 0 then A else B := by
    intro c A B x y h ha hb
    by_cases hw : w = c
    · rw [if_pos hw] at h
      exact ifT (lg0.mpr hw) (ha h)
    · rw [if_neg hw] at h
      exact ifF (fun h => hw (lg0.mp h)) (hb h)
  unfold as_by at H
  exact st _ H (fun H => ⟨_, rfl, _, _, rfl, rfl, H⟩) (fun H => st _ H (fun H => ⟨_, rfl, _, _, rfl, rfl, H⟩) (fun H => st _ H (fun H => ⟨_, rfl, _, _, rfl, rfl, H⟩) (fun H => st _ H (fun H => ⟨_, rfl, _, _, rfl, rfl, H⟩) (fun H => st _ H (fun H => ⟨_, rfl, _, _, rfl, rfl, H⟩) (fun H => st _ H (fun H => ⟨_, rfl, _, _, rfl, rfl, H⟩) (fun H => st _ H (fun H => ⟨_, rfl, _, _, rfl, rfl, H⟩) (fun H => st _ H (fun H => ⟨_, rfl, _, _, rfl, rfl, H⟩) (fun H => ⟨_, rfl, _, _, rfl, rfl, H⟩))))))))
/-- one number behind what was read -/
theorem m_asOne {q : Nat} {f : Int × Int} {g : Bool} {lo hi : Int} {ws : List Int} {K KK : Bool → tw_S → Prop} {S1 : tw_S} (hm : pw_base E ≤ m) (hd : 3 ≤ d) (hl : 0 ≤ L ∧ L ≤ 600) (hq : (q : Int) ≤ L) (h : r_at T L S1 q f g) (hfr : r_fr S S1) (e2 : S1.2.2 10 2 = -1) (h21 : S1.1 21 = (ws.length : Nat)) (hw : ∀ (j : Nat) (x : Int), ws[j]? = some x → S1.2.2 11 j = x) (hlo : rI lo) (hhi : rI hi) (H : as_post T L S K (as_one T L lo hi q f ws)) (hKK : ∀ b S', K b S' → KK b S') : pw_Cl E m_X2_take d [va_rf (some m), .int (iI 1), .int (iI lo), .int (iI hi)] (tw w0 m S1) (c_z (t_b w0 m KK)) := by
  unfold as_one at H
  refine m_take_ok (k := 1) hm hd hl hq h (by omega) hlo hhi ⟨fun hs S' y1 y2 y3 y4 y5 => hKK _ _ ?_, fun hs S' y1 y2 => hKK _ _ ?_⟩
  · rw [if_pos hs] at H
    refine H S' _ y1 (hfr.trans y2) ?_ ?_ (y5.trans h21) (fun j x hx => by rw [y4]; exact hw j x hx)
    · rw [y3]; show (if 1 = 1 then k_val T L q else _) = _; rw [if_pos rfl]
    · rw [y3]; show (if 2 = 1 then _ else S1.2.2 10 2) = _; rw [if_neg (by omega)]; exact e2
  · rw [if_neg hs] at H
    exact H S' y1 (hfr.trans y2)
theorem m_readAsking_ok {q : Nat} {f : Int × Int} {kind own : Int} {K : Bool → tw_S → Prop} (hm : pw_base E ≤ m) (hd : 5 ≤ d) (hl : 0 ≤ L ∧ L ≤ 600) (hq : (q : Int) ≤ L) (h : r_at T L S q f true) (hk : 0 ≤ kind ∧ kind ≤ 7) (ho : 0 ≤ own ∧ own ≤ 8) (e1 : S.2.2 10 1 = -1) (e2 : S.2.2 10 2 = -1) (h21 : S.1 21 = 0) (H : as_post T L S K (as_read T L kind own q f)) : pw_Cl E m_X2_readAsking d [va_rf (some m), .int (iI kind), .int (iI own)] (tw w0 m S) (c_z (t_b w0 m K)) := by
  obtain ⟨e, rfl, he⟩ := pw_d1 hd
  have hgo := k_go_le (T := T) (L := L) (q := q) hq
  have hgo2 := k_go_le (T := T) (L := L) (q := k_go T L q) hgo.2.1
  have kr : rI kind := rI_small (by omega) (by omega)
  have h21' : S.1 21 = ((0 : Nat) : Int) := h21
  have nil : ∀ (j : Nat) (x : Int), ([] : List Int)[j]? = some x → S.2.2 11 j = x := fun j x hx => by cases hx
  have fin : ∀ (b : Bool) (S' : tw_S), K b S' → if b = true then (c_z (t_b w0 m K)) (.inl (some (.int (iI 1)))) (tw w0 m S') else (c_z (t_b w0 m K)) (.inl (some (.int (iI 0)))) (tw w0 m S') := by
    intro b S' hb
    cases b
    · rw [if_neg (by decide)]; exact ⟨false, rfl, S', rfl, hb⟩
    · rw [if_pos rfl]; exact ⟨true, rfl, S', rfl, hb⟩
  unfold as_read at H
  refine e_X2_readAsking _ _ _ (t_X2_readAsking_0 hm _ _ ⟨kr, ?_⟩)
  by_cases k0 : kind = 0
  · rw [if_pos k0] at H
    unfold as_phrase at H
    refine ifT k0 (m_takeWord_ok hm (by omega) hl hq h h21' (fun _ => by omega) ⟨fun hs S1 y1 y2 y3 y4 y5 => ?_, fun hs S1 y1 y2 => ?_⟩)
    · rw [if_pos hs] at H
      rw [if_pos rfl]
      refine m_takeWords_ok hm (by omega) hl (rI_small (by omega) (by omega)) 601 (k_go T L q) 1 _ _ S1 hgo.2.1 (by omega) y1 y5 (fun h9 => by have := k_sep hs h9; omega) (fun S2 z1 z2 z3 z4 z5 z6 => ⟨true, rfl, _, rfl, ?_⟩)
      refine H (tw_sa S2 10 1 (S2.1 21)) _ z1 ((y2.trans z2).trans (r_fr.sa S2 10 1 _ (Or.inl rfl))) ?_ ?_ ?_ (fun j x hx => ?_)
      · show (if (10 : Nat) = 10 ∧ 1 = 1 then S2.1 21 else S2.2.2 10 1) = _
        rw [if_pos ⟨rfl, rfl⟩, z6]
        omega
      · show S2.2.2 10 2 = -1
        rw [z5, y4]; exact e2
      · show S2.1 21 = _
        rw [z6, List.length_cons]
        congr 1
        omega
      · show S2.2.2 11 j = x
        cases j with
        | zero =>
          have hx : k_num T L q = x := Option.some.inj hx
          rw [z3 0 (by omega), y3]
          show (if 0 = 0 then k_num T L q else _) = x
          rw [if_pos rfl, hx]
        | succ j =>
          have := z4 j x hx
          rw [show 1 + j = j + 1 by omega] at this
          exact this
    · rw [if_neg hs] at H
      rw [if_neg (by decide)]
      exact ⟨false, rfl, S1, rfl, H S1 y1 y2⟩
  · rw [if_neg k0] at H
    refine ifF k0 ⟨kr, ?_⟩
    by_cases k1 : kind = 1
    · rw [if_pos k1] at H
      unfold as_near at H
      refine ifT k1 (m_takeWord_ok hm (by omega) hl hq h h21' (fun _ => by omega) ⟨fun hs S1 y1 y2 y3 y4 y5 => ?_, fun hs S1 y1 y2 => ?_⟩)
      · rw [if_pos hs] at H
        rw [if_pos rfl]
        refine m_takeWord_ok hm (by omega) hl hgo.2.1 y1 y5 (fun h9 => by have := k_sep hs h9; omega) ⟨fun hs2 S2 z1 z2 z3 z4 z5 => ?_, fun hs2 S2 z1 z2 => ?_⟩
        · rw [if_pos hs2] at H
          rw [if_pos rfl]
          refine m_asOne (ws := [k_num T L q, k_num T L (k_go T L q)]) hm (by omega) hl hgo2.2.1 z1 (y2.trans z2) (by rw [z4, y4]; exact e2) z5 (fun j x hx => ?_) (rI_small (by omega) (by omega)) (rI_small (by omega) (by omega)) H fin
          rw [z3]
          match j, hx with
          | 0, hx =>
            have hx : k_num T L q = x := Option.some.inj hx
            show (if 0 = 0 + 1 then _ else S1.2.2 11 0) = x
            rw [if_neg (by omega), y3]
            show (if 0 = 0 then k_num T L q else _) = x
            rw [if_pos rfl, hx]
          | 1, hx =>
            have hx : k_num T L (k_go T L q) = x := Option.some.inj hx
            show (if 1 = 0 + 1 then k_num T L (k_go T L q) else _) = x
            rw [if_pos rfl, hx]
        · rw [if_neg hs2] at H
          rw [if_neg (by decide)]
          exact ⟨false, rfl, S2, rfl, H S2 z1 (y2.trans z2)⟩
      · rw [if_neg hs] at H
        rw [if_neg (by decide)]
        exact ⟨false, rfl, S1, rfl, H S1 y1 y2⟩
    · rw [if_neg k1] at H
      refine ifF k1 ⟨kr, ?_⟩
      by_cases k2 : kind = 2
      · rw [if_pos k2] at H
        unfold as_many at H
        refine ifT k2 (m_takeWord_ok hm (by omega) hl hq h h21' (fun _ => by omega) ⟨fun hs S1 y1 y2 y3 y4 y5 => ?_, fun hs S1 y1 y2 => ?_⟩)
        · rw [if_pos hs] at H
          rw [if_pos rfl]
          refine m_asOne (ws := [k_num T L q]) hm (by omega) hl hgo.2.1 y1 y2 (by rw [y4]; exact e2) y5 (fun j x hx => ?_) (rI_small (by omega) (by omega)) (rI_small (by omega) (by omega)) H fin
          rw [y3]
          match j, hx with
          | 0, hx =>
            have hx : k_num T L q = x := Option.some.inj hx
            show (if 0 = 0 then k_num T L q else _) = x
            rw [if_pos rfl, hx]
        · rw [if_neg hs] at H
          rw [if_neg (by decide)]
          exact ⟨false, rfl, S1, rfl, H S1 y1 y2⟩
      · rw [if_neg k2] at H
        have one : as_post T L S K (as_one T L 0 (own - 1) q f []) → pw_Cl E m_X2_take e [va_rf (some m), .int (iI 1), .int (iI 0), .int (iI (own - 1))] (tw w0 m S) (c_z (t_b w0 m (fun b S16 => (c_z (t_b w0 m K)) (.inl (some (.int (bI b)))) (tw w0 m S16)))) := by
          intro H
          exact m_asOne (ws := []) hm (by omega) hl hq h (r_fr.refl S) e2 h21' nil (rI_small (by omega) (by omega)) (rI_small (by omega) (by omega)) H (fun b S' hb => ⟨b, rfl, S', rfl, hb⟩)
        have two : as_post T L S K (as_two T L own q f) → pw_Cl E m_X2_take e [va_rf (some m), .int (iI 1), .int (iI 0), .int (iI (own - 1))] (tw w0 m S) (c_z (t_b w0 m (fun b23 S22 => (if b23 = true then pw_Cl E m_X2_take e [va_rf (some m), .int (iI 2), .int (iI 0), .int (iI (own - 1))] (tw w0 m S22) (c_z (t_b w0 m (fun b25 S24 => (if b25 = true then (c_z (t_b w0 m K)) (.inl (some (.int (iI 1)))) (tw w0 m S24) else (c_z (t_b w0 m K)) (.inl (some (.int (iI 0)))) (tw w0 m S24))))) else (c_z (t_b w0 m K)) (.inl (some (.int (iI 0)))) (tw w0 m S22))))) := by
          intro H
          unfold as_two at H
          refine m_take_ok (k := 1) hm (by omega) hl hq h (by omega) (rI_small (by omega) (by omega)) (rI_small (by omega) (by omega)) ⟨fun hs S1 y1 y2 y3 y4 y5 => ?_, fun hs S1 y1 y2 => ?_⟩
          · rw [if_pos hs] at H
            rw [if_pos rfl]
            refine m_take_ok (k := 2) hm (by omega) hl hgo.2.1 y1 (by omega) (rI_small (by omega) (by omega)) (rI_small (by omega) (by omega)) ⟨fun hs2 S2 z1 z2 z3 z4 z5 => ?_, fun hs2 S2 z1 z2 => ?_⟩
            · rw [if_pos hs2] at H
              rw [if_pos rfl]
              refine ⟨true, rfl, S2, rfl, H S2 _ z1 (y2.trans z2) ?_ ?_ ((z5.trans y5).trans h21') (fun j x hx => by cases hx)⟩
              · rw [z3]; show (if 1 = 2 then _ else S1.2.2 10 1) = _; rw [if_neg (by omega), y3]; show (if 1 = 1 then k_val T L q else _) = _; rw [if_pos rfl]
              · rw [z3]; show (if 2 = 2 then k_val T L (k_go T L q) else _) = _; rw [if_pos rfl]
            · rw [if_neg hs2] at H
              rw [if_neg (by decide)]
              exact ⟨false, rfl, S2, rfl, H S2 z1 (y2.trans z2)⟩
          · rw [if_neg hs] at H
            rw [if_neg (by decide)]
            exact ⟨false, rfl, S1, rfl, H S1 y1 y2⟩
        refine ifF k2 ⟨kr, ?_⟩
        by_cases k3 : kind = 3
        · rw [if_neg (by omega)] at H
          exact ifT k3 (one H)
        · refine ifF k3 ⟨kr, ?_⟩
          by_cases k4 : kind = 4
          · rw [if_neg (by omega)] at H
            exact ifT k4 (one H)
          · refine ifF k4 ⟨kr, ?_⟩
            by_cases k5 : kind = 5
            · rw [if_neg (by omega)] at H
              exact ifT k5 (one H)
            · refine ifF k5 ⟨kr, ?_⟩
              by_cases k6 : kind = 6
              · rw [if_pos (Or.inl k6)] at H
                exact ifT k6 (two H)
              · refine ifF k6 ⟨kr, ?_⟩
                by_cases k7 : kind = 7
                · rw [if_pos (Or.inr k7)] at H
                  exact ifT k7 (two H)
                · omega
end
