set_option maxRecDepth 100000
/-! an archive in the making stays one (plain) -/
theorem a_row_mem {A : Nat → Int} {d v x : Int} : x ∈ a_row A d v ↔ ∃ p : Int, 0 ≤ p ∧ p < a_long A d v ∧ a_tok A d v p = x := by
  unfold a_row
  rw [List.mem_map]
  constructor
  · rintro ⟨p, hp, rfl⟩
    rw [List.mem_range] at hp
    exact ⟨p, by omega, by omega, rfl⟩
  · rintro ⟨p, h0, h1, rfl⟩
    refine ⟨p.toNat, List.mem_range.mpr (by omega), ?_⟩
    rw [show ((p.toNat : Nat) : Int) = p by omega]
theorem a_row_nd {A : Nat → Int} {d v : Int} : (a_row A d v).Nodup ↔ ∀ p q, 0 ≤ p → p < a_long A d v → 0 ≤ q → q < a_long A d v → a_tok A d v p = a_tok A d v q → p = q := by
  constructor
  · intro h p q h0 h1 h2 h3 he
    have hp := a_row_at (A := A) (d := d) (v := v) (p := p.toNat) (by omega)
    have hq := a_row_at (A := A) (d := d) (v := v) (p := q.toNat) (by omega)
    rw [show ((p.toNat : Nat) : Int) = p by omega] at hp
    rw [show ((q.toNat : Nat) : Int) = q by omega, ← he] at hq
    have hl : p.toNat < (a_row A d v).length := by rw [a_row_len]; omega
    have := (List.getElem?_inj hl h).mp (hp.trans hq.symm)
    omega
  · intro h
    unfold a_row
    rw [List.nodup_iff_pairwise_ne, List.pairwise_map]
    refine List.Pairwise.imp_of_mem (R := fun a b => a < b) ?_ List.pairwise_lt_range
    intro p q hp hq hlt he
    rw [List.mem_range] at hp hq
    have := h p q (by omega) (by omega) (by omega) (by omega) he
    omega
theorem g_ids_mem (n x : Int) : ∀ (f k : Nat), x ∈ g_ids n k f ↔ n + k ≤ x ∧ x < n + k + f
  | 0, k => by
    constructor
    · intro h; cases h
    · intro h; omega
  | f + 1, k => by
    show x ∈ (n + k) :: g_ids n (k + 1) f ↔ _
    rw [List.mem_cons, g_ids_mem n x f (k + 1)]
    omega
theorem g_ids_nd (n : Int) : ∀ (f k : Nat), (g_ids n k f).Nodup
  | 0, _ => List.nodup_nil
  | f + 1, k => by
    show ((n + k) :: g_ids n (k + 1) f).Nodup
    refine List.nodup_cons.mpr ⟨fun h => ?_, g_ids_nd n f (k + 1)⟩
    rw [g_ids_mem] at h
    omega
/-- all that an archive in the making is -/
def g_val (A : Nat → Int) : Prop := g_ok A ∧ (0 ≤ A 0 ∧ A 0 ≤ 4) ∧ (∀ d v : Int, 0 ≤ d → d < 4 → 0 ≤ v → v < a_many A d → (d < A 0 ∧ ∀ x ∈ a_row A d v, (0 ≤ x ∧ x < A 5) ∧ a_whose A x = d) ∧ (a_row A d v).Nodup) ∧ (∀ t, 0 ≤ t → t < A 5 → (0 ≤ a_whose A t ∧ a_whose A t < A 0) ∧ (1 ≤ a_word A t ∧ a_word A t < 531441) ∧ ∃ v, 0 ≤ v ∧ v < a_many A (a_whose A t) ∧ t ∈ a_row A (a_whose A t) v) ∧ ∀ i : Nat, i < 40 → rI (A (6 + i))
theorem g_val.ok {A : Nat → Int} (h : g_val A) : a_ok A (A 5) := by
  obtain ⟨h1, h2, h3, h4, h5⟩ := h
  have h15 := h1.1
  refine ⟨h2, by omega, h1.2.1, fun d v hd0 hd1 hv0 hv1 => h1.2.2 (10 * d + v) (by omega) (by omega), fun d v k hd0 hd1 hv0 hv1 hk0 hk1 => ?_, fun t ht0 ht1 => ?_⟩
  · exact ((h3 d v hd0 hd1 hv0 hv1).1.2 _ (a_row_mem.mpr ⟨k, hk0, hk1, rfl⟩)).1
  · have := h4 t ht0 ht1
    exact ⟨⟨this.1.1, by omega⟩, rI_small (by omega) (by omega)⟩
theorem g_val.arok {A : Nat → Int} (h : g_val A) (hF : a_full A) (hn : A 5 ≤ 279) : a_arok A := by
  have h0 := h.ok
  obtain ⟨h1, h2, h3, h4, h5⟩ := h
  refine ⟨h0, hn, hF, fun t ht0 ht1 => (h4 t ht0 ht1).2.1, h5, fun d v p hd0 hd1 hv0 hv1 hp0 hp1 => ?_, fun d v p q hd0 hd1 hv0 hv1 hp0 hp1 hq0 hq1 he => ?_, fun t ht0 ht1 => ?_, fun d hd0 hd1 hd2 => ?_⟩
  · exact ((h3 d v hd0 hd1 hv0 hv1).1.2 _ (a_row_mem.mpr ⟨p, hp0, hp1, rfl⟩)).2
  · exact a_row_nd.mp (h3 d v hd0 hd1 hv0 hv1).2 p q hp0 hp1 hq0 hq1 he
  · obtain ⟨⟨w0, w1⟩, -, v, hv0, hv1, hm⟩ := h4 t ht0 ht1
    obtain ⟨p, hp0, hp1, hp⟩ := a_row_mem.mp hm
    exact ⟨w1, v, p, hv0, hv1, hp0, hp1, hp⟩
  · have hm := h1.2.1 d hd0 hd1
    by_cases h9 : 0 < a_many A d
    · have := (h3 d 0 hd0 hd1 (by omega) h9).1.1
      omega
    · omega
/-- an archive handed -/
theorem a_arok.val {A : Nat → Int} (h : a_arok A) : g_val A := by
  have hd := h.none
  have hl : ∀ l : Int, 0 ≤ l → l < 40 → 0 ≤ A (Int.toNat (46 + l)) ∧ A (Int.toNat (46 + l)) ≤ 20 := by
    intro l h0 h1
    have := h.ok.2.2.2.1 (l / 10) (l % 10) (by omega) (by omega) (by omega) (by omega)
    unfold a_long at this
    rw [show 10 * (l / 10) + l % 10 = l by omega] at this
    exact this
  have ok := h.ok
  have n2 := h.n2
  refine ⟨⟨⟨ok.2.1.1, by omega⟩, ok.2.2.1, hl⟩, ok.1, fun d v hd0 hd1 hv0 hv1 => ⟨⟨?_, fun x hx => ?_⟩, ?_⟩, fun t ht0 ht1 => ?_, h.date⟩
  · by_cases h9 : A 0 ≤ d
    · have := hd d hd0 hd1 h9; omega
    · omega
  · obtain ⟨p, hp0, hp1, rfl⟩ := a_row_mem.mp hx
    exact ⟨ok.2.2.2.2.1 d v p hd0 hd1 hv0 hv1 hp0 hp1, h.own d v p hd0 hd1 hv0 hv1 hp0 hp1⟩
  · exact a_row_nd.mpr (fun p q hp0 hp1 hq0 hq1 he => h.dist d v p q hd0 hd1 hv0 hv1 hp0 hp1 hq0 hq1 he)
  · have := (ok.2.2.2.2.2 t ht0 ht1).1
    obtain ⟨w1, v, p, hv0, hv1, hp0, hp1, hp⟩ := h.occ t ht0 ht1
    exact ⟨⟨this.1, w1⟩, h.wok t ht0 ht1, v, hv0, hv1, a_row_mem.mpr ⟨p, hp0, hp1, hp⟩⟩
theorem g_bld.many {A C : Nat → Int} {d date e : Int} {ws row : List Int} {k : Nat} (hA : 0 ≤ A 5) (hm : 0 ≤ a_many A d ∧ a_many A d ≤ 9) (hd : 0 ≤ d ∧ d < 4) (h : g_bld A d date ws row k C) (he : 0 ≤ e ∧ e < 4) : a_many C e = if e = d then a_many A d + 1 else a_many A e := by
  split
  · rename_i h9; rw [h9]; exact h.2.1
  · show C (Int.toNat (1 + e)) = A (Int.toNat (1 + e))
    refine h.2.2.2.2.2.2 _ ?_
    unfold g_un
    omega
theorem g_bld.rowOld {A C : Nat → Int} {d date e v : Int} {ws row : List Int} {k : Nat} (hA : g_ok A) (hm : a_many A d ≤ 9) (hd : 0 ≤ d ∧ d < 4) (h : g_bld A d date ws row k C) (he : 0 ≤ e ∧ e < 4) (hv : 0 ≤ v ∧ v < a_many A e) : a_long C e v = a_long A e v ∧ a_row C e v = a_row A e v := by
  have h5 := hA.1
  have h1 := hA.2.1 e he.1 he.2
  have h2 := hA.2.1 d hd.1 hd.2
  have hl : a_long C e v = a_long A e v := by
    unfold a_long
    refine h.2.2.2.2.2.2 _ ?_
    unfold g_un
    by_cases h9 : e = d
    · subst h9; omega
    · omega
  have hq := hA.2.2 (10 * e + v) (by omega) (by omega)
  have hq : 0 ≤ a_long A e v ∧ a_long A e v ≤ 20 := hq
  refine ⟨hl, ?_⟩
  unfold a_row
  rw [hl]
  refine List.map_congr_left (fun p hp => ?_)
  rw [List.mem_range] at hp
  unfold a_tok
  refine h.2.2.2.2.2.2 _ ?_
  unfold g_un
  by_cases h9 : e = d
  · subst h9; omega
  · omega
theorem g_bld.rowNew {A C : Nat → Int} {d date : Int} {ws row : List Int} {k : Nat} (h : g_bld A d date ws row k C) : a_long C d (a_many A d) = row.length ∧ a_row C d (a_many A d) = row := by
  have hl : a_long C d (a_many A d) = row.length := h.2.2.2.1
  refine ⟨hl, ?_⟩
  refine List.ext_getElem? (fun p => ?_)
  by_cases hp : p < row.length
  · rw [a_row_at (by rw [hl]; omega), List.getElem?_eq_getElem hp]
    congr 1
    exact h.2.2.2.2.1 p _ (List.getElem?_eq_getElem hp)
  · have c1 : (a_row C d (a_many A d)).length ≤ p := by rw [a_row_len, hl]; omega
    have c2 : row.length ≤ p := by omega
    rw [List.getElem?_eq_none c1, List.getElem?_eq_none c2]
theorem g_bld.tok {A C : Nat → Int} {d date : Int} {ws row : List Int} {k : Nat} (hA : 0 ≤ A 5) (hm : 0 ≤ a_many A d ∧ a_many A d ≤ 9) (hd : 0 ≤ d ∧ d < 4) (h : g_bld A d date ws row k C) {t : Int} (ht : 0 ≤ t ∧ t < A 5) (hn : A 5 + k ≤ 319) : a_word C t = a_word A t ∧ a_whose C t = a_whose A t := by
  unfold a_word a_whose
  constructor
  · refine h.2.2.2.2.2.2 _ ?_
    unfold g_un
    omega
  · refine h.2.2.2.2.2.2 _ ?_
    unfold g_un
    omega
theorem g_bld.val {A C : Nat → Int} {d date : Int} {ws row : List Int} {k : Nat} (hv : g_val A) (hd : 0 ≤ d ∧ d < A 0) (hm : a_many A d ≤ 9) (h : g_bld A d date ws row k C) (hk : k ≤ ws.length) (hn : A 5 + k ≤ 319) (hrow : row.length ≤ 20) (hmem : ∀ x ∈ row, (0 ≤ x ∧ x < A 5 ∧ a_whose A x = d) ∨ (A 5 ≤ x ∧ x < A 5 + k)) (hnd : row.Nodup) (hnew : ∀ x, A 5 ≤ x → x < A 5 + k → x ∈ row) (hws : ∀ w ∈ ws, 1 ≤ w ∧ w < 531441) (hdate : rI date) : g_val C := by
  obtain ⟨hA, h2, h3, h4, h5⟩ := hv
  have hA5 := hA.1
  have hd4 : 0 ≤ d ∧ d < 4 := ⟨hd.1, by omega⟩
  have hmd := hA.2.1 d hd4.1 hd4.2
  have hm' : 0 ≤ a_many A d ∧ a_many A d ≤ 9 := ⟨hmd.1, hm⟩
  have e0 : C 0 = A 0 := h.2.2.2.2.2.2 0 (by unfold g_un; omega)
  have e5 := h.1
  have new : ∀ t : Int, A 5 ≤ t → t < A 5 + k → a_whose C t = d ∧ (1 ≤ a_word C t ∧ a_word C t < 531441) := by
    intro t ht0 ht1
    have hx : ws[(t - A 5).toNat]? = some ws[(t - A 5).toNat] := List.getElem?_eq_getElem (by omega)
    have := h.2.2.2.2.2.1 (t - A 5).toNat _ (by omega) hx
    have hw := hws _ (List.getElem_mem (show (t - A 5).toNat < ws.length by omega))
    rw [show 886 + A 5 + (((t - A 5).toNat : Nat) : Int) = 886 + t by omega, show 1206 + A 5 + (((t - A 5).toNat : Nat) : Int) = 1206 + t by omega] at this
    unfold a_whose a_word
    rw [this.1, this.2]
    exact ⟨rfl, hw⟩
  refine ⟨⟨by omega, fun e he0 he1 => ?_, fun l hl0 hl1 => ?_⟩, by omega, fun e v he0 he1 hv0 hv1 => ?_, fun t ht0 ht1 => ?_, fun i hi => ?_⟩
  · rw [h.many (by omega) hm' hd4 ⟨he0, he1⟩]
    split
    · omega
    · exact hA.2.1 e he0 he1
  · by_cases h9 : l = 10 * d + a_many A d
    · rw [h9, h.2.2.2.1]; omega
    · rw [h.2.2.2.2.2.2 _ (show g_un (A 5) d (10 * d + a_many A d) k _ by unfold g_un; omega)]
      exact hA.2.2 l hl0 hl1
  · rw [h.many (by omega) hm' hd4 ⟨he0, he1⟩] at hv1
    by_cases h9 : e = d ∧ v = a_many A d
    · rw [h9.1, h9.2, h.rowNew.2]
      refine ⟨⟨by omega, fun x hx => ?_⟩, hnd⟩
      rcases hmem x hx with ⟨x0, x1, x2⟩ | ⟨x0, x1⟩
      · rw [(h.tok (by omega) hm' hd4 ⟨x0, x1⟩ hn).2]
        exact ⟨by omega, x2⟩
      · exact ⟨by omega, (new x x0 x1).1⟩
    · have hv9 : v < a_many A e := by
        split at hv1
        · rename_i h8; rw [h8]; omega
        · exact hv1
      rw [(h.rowOld hA hm hd4 ⟨he0, he1⟩ ⟨hv0, hv9⟩).2]
      obtain ⟨⟨q1, q2⟩, q3⟩ := h3 e v he0 he1 hv0 hv9
      refine ⟨⟨by omega, fun x hx => ?_⟩, q3⟩
      obtain ⟨y1, y2⟩ := q2 x hx
      rw [(h.tok (by omega) hm' hd4 y1 hn).2]
      exact ⟨by omega, y2⟩
  · by_cases h9 : t < A 5
    · obtain ⟨y1, y2⟩ := h.tok (by omega) hm' hd4 ⟨ht0, h9⟩ hn
      obtain ⟨z1, z2, v, z3, z4, z5⟩ := h4 t ht0 h9
      rw [y1, y2]
      refine ⟨by omega, z2, v, z3, ?_, ?_⟩
      · rw [h.many (by omega) hm' hd4 ⟨z1.1, by omega⟩]
        split
        · rename_i h8; rw [h8] at z4; omega
        · exact z4
      · rw [(h.rowOld hA hm hd4 ⟨z1.1, by omega⟩ ⟨z3, z4⟩).2]
        exact z5
    · obtain ⟨y1, y2⟩ := new t (by omega) (by omega)
      rw [y1]
      refine ⟨by omega, y2, a_many A d, by omega, ?_, ?_⟩
      · rw [h.2.1]; omega
      · rw [h.rowNew.2]
        exact hnew t (by omega) (by omega)
  · by_cases h9 : (i : Int) = 10 * d + a_many A d
    · have := h.2.2.1
      rw [← h9, show Int.toNat (6 + (i : Int)) = 6 + i by omega] at this
      rw [this]
      exact hdate
    · rw [h.2.2.2.2.2.2 _ (show g_un (A 5) d (10 * d + a_many A d) k (6 + i) by unfold g_un; omega)]
      exact h5 i hi
