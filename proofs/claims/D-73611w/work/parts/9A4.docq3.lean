set_option maxRecDepth 100000
/-! the component: a document's passages, what returns -/
def dc_then (D : dc) (v : Nat) (t : Int) : Int := if dc_place (dc_row D v) t.toNat = -1 then -1 else if dc_place (dc_row D v) t.toNat + 1 < dc_len D v then ((dc_row D v).getD (dc_place (dc_row D v) t.toNat + 1).toNat 0 : Nat) else -1
def dc_bl (D : dc) (t s : Int) : Nat → Nat → Int → Int
  | 0, _, b => if b ≠ -1 ∧ dc_set D.1 b.toNat = s then b else -1
  | n + 1, v, b => if s_has s v = true then (if dc_then D v t = -1 ∨ (b ≠ -1 ∧ dc_then D v t ≠ b) then -1 else dc_bl D t s n (v + 1) (dc_then D v t)) else dc_bl D t s n (v + 1) b
def dc_behind (D : dc) (t : Int) : Int := dc_bl D t (dc_set D.1 t.toNat) D.1.length 0 (-1)
def dc_chain (D : dc) : Nat → Int → Int
  | 0, _ => 0
  | f + 1, t => if t = -1 then 0 else 1 + dc_chain D f (dc_behind D t)
theorem dc_then_r {D : dc} (hD : dc_ok D) {v : Nat} (hv : v < D.1.length) (t : Int) : dc_then D v t = -1 ∨ (0 ≤ dc_then D v t ∧ dc_then D v t < D.2.1.length) := by
  obtain ⟨row, hr⟩ := dc_get hv
  obtain ⟨b1, b2, b3, b4, b5⟩ := hD.row hr
  have hp := dc_place_r (dc_row D v) t.toNat
  unfold dc_then
  split
  · exact Or.inl rfl
  · rename_i h1
    split
    · rename_i h2
      have hp := hp.resolve_left h1
      unfold dc_len at h2
      obtain ⟨j, hj⟩ := dc_get (l := dc_row D v) (i := (dc_place (dc_row D v) t.toNat + 1).toNat) (by omega)
      rw [dc_getD hj]
      rw [b4] at hj
      obtain ⟨s, hs⟩ := b2 _ _ hj
      have := (List.getElem?_eq_some_iff.mp hs).1
      exact Or.inr ⟨by omega, by omega⟩
    · exact Or.inl rfl
theorem dc_bl_r {D : dc} (hD : dc_ok D) (t s : Int) : ∀ (n v : Nat) (b : Int), v + n = D.1.length → (b = -1 ∨ (0 ≤ b ∧ b < D.2.1.length)) → (dc_bl D t s n v b = -1 ∨ (0 ≤ dc_bl D t s n v b ∧ dc_bl D t s n v b < D.2.1.length)) := by
  intro n
  induction n with
  | zero =>
    intro v b _ hb
    unfold dc_bl
    split
    · exact hb
    · exact Or.inl rfl
  | succ n ih =>
    intro v b hv hb
    unfold dc_bl
    split
    · split
      · exact Or.inl rfl
      · exact ih _ _ (by omega) (dc_then_r hD (by omega) t)
    · exact ih _ _ (by omega) hb
theorem dc_behind_r {D : dc} (hD : dc_ok D) (t : Int) : dc_behind D t = -1 ∨ (0 ≤ dc_behind D t ∧ dc_behind D t < D.2.1.length) := dc_bl_r hD _ _ _ 0 _ (by omega) (Or.inl rfl)
section
variable {E : pw_E} {d : Nat} {w : pw_W} {a : Nat} {D : dc}
theorem cd_behind_ok {t : Nat} {s : List Int} {K : Int32 → pw_W → Prop} (hd : 4 ≤ d) (h : c_doc E w.1 w.1 a D) (hD : dc_ok D) (h10 : D.1.length ≤ 10) (ht : D.2.1[t]? = some s) (H : K (iI (dc_behind D t)) w) : pw_Cl E m_X7_behind d [va_rf (some a), .int (iI t)] w (c_i K) := by
  replace hd := pw_d1 hd; obtain ⟨e, rfl, hd⟩ := hd
  have htl := (List.getElem?_eq_some_iff.mp ht).1
  have hT := hD.2.2.2.1
  unfold dc_behind at H
  rw [Int.toNat_natCast] at H
  refine e_X7_behind _ _ (s_X7_behind_0 _ _ (dq_tok (by omega) h ht (fun t' c ht' hc => ⟨t', _, _, rfl, ht', rfl, ?_⟩)))
  have hset := dc_set_r (j := t) h10
  have key : ∀ (f v : Nat) (b : Int), v + f = D.1.length → (b = -1 ∨ (0 ≤ b ∧ b < D.2.1.length)) → dc_bl D t (dc_set D.1 t) D.1.length 0 (-1) = dc_bl D t (dc_set D.1 t) f v b → pw_Wp E m_X7_behind (e + 1) 20 [some (va_rf (some a)), some (.int (iI t)), some (.int (iI (dc_set D.1 t))), some (.int (iI b)), some (.int (iI (v : Nat))), none, none] [] w (c_i K) := by
    intro f
    induction f with
    | zero =>
      intro v b hv hb hq
      have m1 : (iI b = -1) = (b = -1) := iI_eq (b := -1) (rI_small (by omega) (by omega)) (rI_small (by omega) (by omega))
      rw [dc_bl] at hq
      refine s_X7_behind_20 _ _ _ _ _ (dq_many (by omega) h (ifT (by rw [iI_len (by omega) (by omega)]; omega) ?_))
      by_cases z : b = -1
      · rw [if_neg (fun q => q.1 z)] at hq
        rw [hq] at H
        exact ifT (by rw [m1]; exact z) ⟨_, rfl, H⟩
      · have hb := hb.resolve_left z
        obtain ⟨s', hs'⟩ := dc_get (l := D.2.1) (i := b.toNat) (by omega)
        have eb : iI b = iI ((b.toNat : Nat) : Int) := by rw [Int.toNat_of_nonneg hb.1]
        have hset' := dc_set_r (j := b.toNat) h10
        refine ifF (by rw [m1]; exact z) ?_
        rw [eb]
        refine dq_tok (by omega) h hs' (fun t2 c2 ht2 hc2 => ⟨t2, _, _, rfl, ht2, rfl, ?_⟩)
        have m2 : (iI (dc_set D.1 b.toNat) = iI (dc_set D.1 t)) = (dc_set D.1 b.toNat = dc_set D.1 t) := iI_eq (rI_small (by omega) (by omega)) (rI_small (by omega) (by omega))
        rw [← eb]
        by_cases y : dc_set D.1 b.toNat = dc_set D.1 t
        · rw [if_pos ⟨z, y⟩] at hq
          rw [hq] at H
          exact ifT (by rw [m2]; exact y) ⟨_, rfl, H⟩
        · rw [if_neg (fun q => y q.2)] at hq
          rw [hq] at H
          exact ifF (by rw [m2]; exact y) ⟨_, rfl, H⟩
    | succ f ih =>
      intro v b hv hb hq
      have m1 : (iI b = -1) = (b = -1) := iI_eq (b := -1) (rI_small (by omega) (by omega)) (rI_small (by omega) (by omega))
      rw [dc_bl] at hq
      refine s_X7_behind_20 _ _ _ _ _ (dq_many (by omega) h (ifF (by rw [iI_len (by omega) (by omega)]; omega) (c_has_ok (by omega) ?_)))
      cases hs : s_has (dc_set D.1 t) v with
      | false =>
        rw [hs, if_neg (by decide)] at hq
        refine ifT (by decide) ?_
        rw [iI_ad1]
        exact ih (v + 1) b (by omega) hb hq
      | true =>
        rw [hs, if_pos rfl] at hq
        refine ifF (by decide) ?_
        have hin := dc_set_has (R := D.1) (j := t) (k := v) h10 (by omega)
        rw [hs] at hin
        obtain ⟨row, hr⟩ := dc_get (l := D.1) (i := v) (by omega)
        obtain ⟨b1, b2, b3, b4, b5⟩ := hD.row hr
        rw [dc_getD hr] at hin
        have hmem : t ∈ row := by
          have := hin.symm
          rw [Bool.and_eq_true] at this
          exact of_decide_eq_true this.2
        have hpl := dc_pl_mem t row 0 hmem
        have hpl : dc_place row t ≠ -1 := hpl
        have hpr := (dc_place_r row t).resolve_left hpl
        have hbr : ∀ j ∈ row, j ≤ 1000 := fun j hj => by have := hD.1 row (List.mem_of_getElem? hr) j hj; omega
        have eth : dc_then D v t = if dc_place row t + 1 < row.length then ((row.getD (dc_place row t + 1).toNat 0 : Nat) : Int) else -1 := by
          unfold dc_then dc_len
          rw [b4, Int.toNat_natCast, if_neg hpl]
        refine dq_row (by omega) h hr (fun r hr' => c_placeOf_ok (by omega) hr' b1 hbr (by omega) (dq_len hr' ?_))
        rw [iI_a1]
        have m3 : (iI (dc_place row t + 1) = iI row.length) = (dc_place row t + 1 = row.length) := iI_eq (rI_small (by omega) (by omega)) (rI_small (by omega) (by omega))
        by_cases z : dc_place row t + 1 = row.length
        · rw [if_neg (by omega)] at eth
          rw [if_pos (Or.inl eth)] at hq
          rw [hq] at H
          exact ifT (by rw [m3]; exact z) ⟨_, rfl, H⟩
        · rw [if_pos (by omega)] at eth
          have hj : row[(dc_place row t + 1).toNat]? = some (row[(dc_place row t + 1).toNat]'(by omega)) := List.getElem?_eq_getElem (by omega)
          generalize hgj : row[(dc_place row t + 1).toNat]'(by omega) = j at hj
          rw [dc_getD hj] at eth
          obtain ⟨s2, hs2⟩ := b2 _ _ hj
          have hj2 := (List.getElem?_eq_some_iff.mp hs2).1
          have ep : iI (dc_place row t + 1) = iI (((dc_place row t + 1).toNat : Nat) : Int) := by rw [Int.toNat_of_nonneg (by omega)]
          refine ifF (by rw [m3]; exact z) ?_
          rw [ep]
          by_cases y : b = -1
          · rw [if_neg (fun q => q.elim (fun q => by omega) (fun q => q.1 y)), eth] at hq
            refine ifT (by rw [m1]; exact y) (dq_aldi hr' hj b1 ?_)
            rw [iI_ad1]
            exact ih (v + 1) j (by omega) (Or.inr ⟨by omega, by omega⟩) hq
          · have hb := hb.resolve_left y
            refine ifF (by rw [m1]; exact y) (dq_aldi hr' hj b1 ?_)
            have m4 : (iI (j : Nat) = iI b) = ((j : Int) = b) := iI_eq (rI_small (by omega) (by omega)) (rI_small (by omega) (by omega))
            by_cases x : (j : Int) = b
            · rw [if_neg (fun q => q.elim (fun q => by omega) (fun q => q.2 (by rw [eth]; exact x))), eth] at hq
              refine ifT (by rw [m4]; exact x) (dq_aldi hr' hj b1 ?_)
              rw [iI_ad1]
              exact ih (v + 1) j (by omega) (Or.inr ⟨by omega, by omega⟩) hq
            · rw [if_pos (Or.inr ⟨y, by rw [eth]; exact x⟩)] at hq
              rw [hq] at H
              exact ifF (by rw [m4]; exact x) ⟨_, rfl, H⟩
  exact key D.1.length 0 (-1) (by omega) (Or.inl rfl) rfl
theorem dq_behind {e t : Nat} {K : Int32 → pw_W → Prop} (hd : 4 ≤ e) (h : c_doc E w.1 w.1 a D) (hD : dc_ok D) (h10 : D.1.length ≤ 10) (ht : t < D.2.1.length) (H : K (iI (dc_behind D t)) w) : f_V E w (some a) 6 m_X7_behind e [.int (iI t)] (c_i K) := by
  obtain ⟨us, hu⟩ := h.obj
  obtain ⟨s, hs⟩ := dc_get ht
  exact ⟨a, us, rfl, hu, cd_behind_ok hd h hD h10 hs H⟩
def dc_ret (D : dc) (v : Nat) : Bool := (List.range (v - 1)).any (fun e => dc_like D v D e) && !dc_like D v D (v - 1)
def dc_returns (D : dc) : Int := upto (D.1.length - 2) (fun k (n : Int) => n + (if dc_ret D (k + 2) = true then 1 else 0)) 0
theorem bI_or (x y : Bool) : bI x ||| bI y = bI (x || y) := by cases x <;> cases y <;> decide
theorem any_succ (p : Nat → Bool) (n : Nat) : (List.range (n + 1)).any p = ((List.range n).any p || p n) := by
  rw [List.range_succ, List.any_append]
  simp
theorem cd_returns_ok {K : Int32 → pw_W → Prop} (hd : 6 ≤ d) (hw : wf E w) (h : c_doc E w.1 w.1 a D) (hD : dc_ok D) (H : K (iI (dc_returns D)) w) : pw_Cl E m_X7_returns d [va_rf (some a)] w (c_i K) := by
  replace hd := pw_d1 hd; obtain ⟨e, rfl, hd⟩ := hd
  have hn := hD.2.2.1
  obtain ⟨us, hu⟩ := h.obj
  refine e_X7_returns _ (s_X7_returns_0 _ ?_)
  unfold dc_returns at H
  have key : ∀ (f k : Nat), k + f = D.1.length - 2 → pw_Wp E m_X7_returns (e + 1) 4 [some (va_rf (some a)), some (.int (iI (upto k (fun k (n : Int) => n + (if dc_ret D (k + 2) = true then 1 else 0)) 0))), some (.int (iI ((k + 2 : Nat) : Int))), none, none] [] w (c_i K) := by
    intro f
    induction f with
    | zero =>
      intro k hk
      refine s_X7_returns_4 _ _ _ (dq_many (by omega) h (ifT (by rw [iI_len (by omega) (by omega)]; omega) ⟨_, rfl, ?_⟩))
      have : k = D.1.length - 2 := by omega
      rw [this]
      exact H
    | succ f ih =>
      intro k hk
      have nx := ih (k + 1) (by omega)
      rw [upto_s] at nx
      refine s_X7_returns_4 _ _ _ (dq_many (by omega) h (ifF (by rw [iI_len (by omega) (by omega)]; omega) ?_))
      generalize upto k (fun k (n : Int) => n + (if dc_ret D (k + 2) = true then 1 else 0)) 0 = n0 at nx ⊢
      obtain ⟨row, hr⟩ := dc_get (l := D.1) (i := k + 2) (by omega)
      have e1 : iI ((k + 2 : Nat) : Int) - 1 = iI ((k + 1 : Nat) : Int) := by
        have : iI ((k + 2 : Nat) : Int) - iI 1 = _ := iI_sub _ 1
        rw [show ((k + 1 : Nat) : Int) = ((k + 2 : Nat) : Int) - 1 by omega]
        exact this
      have inn : ∀ (g i : Nat) (b : Bool), i + g = k + 1 → b = (List.range i).any (fun e => dc_like D (k + 2) D e) → pw_Wp E m_X7_returns (e + 1) 17 [some (va_rf (some a)), some (.int (iI n0)), some (.int (iI ((k + 2 : Nat) : Int))), some (.int (bI b)), some (.int (iI (i : Nat)))] [] w (c_i K) := by
        intro g
        induction g with
        | zero =>
          intro i b hi hb
          have hi : i = k + 1 := by omega
          subst hi
          refine s_X7_returns_17 _ _ _ _ _ ?_
          rw [e1]
          refine ifT (by rw [iI_len (by omega) (by omega)]; omega) ?_
          have ed : dc_ret D (k + 2) = (b && !dc_like D (k + 2) D (k + 1)) := by
            unfold dc_ret
            rw [hb]
            rfl
          rw [ed] at nx
          obtain ⟨row1, hr1⟩ := dc_get (l := D.1) (i := k + 1) (by omega)
          cases hb' : b with
          | false =>
            rw [hb', Bool.false_and, if_neg (by decide), Int.add_zero] at nx
            refine ifT (by decide) ?_
            rw [iI_a0, iI_ad1]
            exact nx
          | true =>
            rw [hb', Bool.true_and] at nx
            refine ifF (by decide) ⟨a, us, rfl, hu, cd_isLike_ok (by omega) hw h hD hr h hD hr1 ?_⟩
            cases hl : dc_like D (k + 2) D (k + 1) with
            | false =>
              rw [hl, Bool.not_false, if_pos rfl] at nx
              refine ifT (by decide) ?_
              rw [iI_a1, iI_ad1]
              exact nx
            | true =>
              rw [hl, Bool.not_true, if_neg (by decide), Int.add_zero] at nx
              refine ifF (by decide) ?_
              rw [iI_a0, iI_ad1]
              exact nx
        | succ g ih2 =>
          intro i b hi hb
          obtain ⟨row1, hr1⟩ := dc_get (l := D.1) (i := i) (by omega)
          refine s_X7_returns_17 _ _ _ _ _ ?_
          rw [e1]
          refine ifF (by rw [iI_len (by omega) (by omega)]; omega) ⟨a, us, rfl, hu, cd_isLike_ok (by omega) hw h hD hr h hD hr1 ?_⟩
          rw [bI_or, iI_ad1]
          refine ih2 (i + 1) _ (by omega) ?_
          rw [any_succ, hb]
      exact inn (k + 1) 0 false (by omega) rfl
  exact key (D.1.length - 2) 0 (by omega)
/-- how many passages, how long the longest is -/
def dc_pas (D : dc) : Int × Int := upto D.2.1.length (fun t (b : Int × Int) => (b.1 - (if 1 < 1 + dc_chain D 1001 (dc_behind D t) then 1 else 0), max b.2 (1 + dc_chain D 1001 (dc_behind D t)))) ((D.2.1.length : Int), 0)
theorem dc_chain_r (D : dc) : ∀ (f : Nat) (t : Int), 0 ≤ dc_chain D f t ∧ dc_chain D f t ≤ f := by
  intro f
  induction f with
  | zero => intro t; exact ⟨Int.le_refl 0, Int.le_refl 0⟩
  | succ f ih =>
    intro t
    unfold dc_chain
    split
    · omega
    · have := ih (dc_behind D t)
      omega
/-- every chain ends -/
def dc_ends (D : dc) : Prop := ∀ t : Nat, t < D.2.1.length → dc_chain D 1001 (dc_behind D t) ≤ 1000
theorem dc_chain_stop (D : dc) : ∀ (f : Nat) (t : Int), dc_chain D (f + 1) t ≤ f → dc_chain D (f + 1) t = dc_chain D f t := by
  intro f
  induction f with
  | zero =>
    intro t h
    have := dc_chain_r D 1 t
    show dc_chain D (0 + 1) t = 0
    have : dc_chain D (0 + 1) t ≤ 0 := h
    have : 0 ≤ dc_chain D (0 + 1) t := (dc_chain_r D 1 t).1
    omega
  | succ f ih =>
    intro t h
    rw [dc_chain] at h ⊢
    rw [show dc_chain D (f + 1) t = if t = -1 then 0 else 1 + dc_chain D f (dc_behind D t) from rfl]
    split
    · rfl
    · rename_i z
      rw [if_neg z] at h
      rw [ih _ (by omega)]
theorem p2_0 {x y : Int32} {K : Int32 → Prop} (H : K x) : f_aldi (pw_new w (1000, [.int x, .int y]) 2) (some w.2.1) 0 K := ⟨w.2.1, 0, _, x, rfl, pw_new_1 _ _ _, rfl, by decide, rfl, H⟩
theorem p2_1 {x y : Int32} {K : Int32 → Prop} (H : K y) : f_aldi (pw_new w (1000, [.int x, .int y]) 2) (some w.2.1) 1 K := ⟨w.2.1, 0, _, y, rfl, pw_new_1 _ _ _, rfl, by decide, rfl, H⟩
theorem p2_s0 {x y z : Int32} {K : pw_W → Prop} (hw : wf E w) (H : K (pw_new w (1000, [.int z, .int y]) 2)) : f_asti E (pw_new w (1000, [.int x, .int y]) 2) (some w.2.1) 0 z K := by
  refine ⟨w.2.1, _, rfl, pw_new_1 _ _ _, hw.b, by decide, (by show 0 < 2; omega), ?_⟩
  rw [pw_up_new]
  exact H
theorem p2_s1 {x y z : Int32} {K : pw_W → Prop} (hw : wf E w) (H : K (pw_new w (1000, [.int x, .int z]) 2)) : f_asti E (pw_new w (1000, [.int x, .int y]) 2) (some w.2.1) 1 z K := by
  refine ⟨w.2.1, _, rfl, pw_new_1 _ _ _, hw.b, by decide, (by show 1 < 2; omega), ?_⟩
  rw [pw_up_new]
  exact H
theorem dc_pas_r (D : dc) (n : Nat) : ((D.2.1.length : Int) - n ≤ (upto n (fun t (b : Int × Int) => (b.1 - (if 1 < 1 + dc_chain D 1001 (dc_behind D t) then 1 else 0), max b.2 (1 + dc_chain D 1001 (dc_behind D t)))) ((D.2.1.length : Int), 0)).1 ∧ (upto n (fun t (b : Int × Int) => (b.1 - (if 1 < 1 + dc_chain D 1001 (dc_behind D t) then 1 else 0), max b.2 (1 + dc_chain D 1001 (dc_behind D t)))) ((D.2.1.length : Int), 0)).1 ≤ D.2.1.length) ∧ 0 ≤ (upto n (fun t (b : Int × Int) => (b.1 - (if 1 < 1 + dc_chain D 1001 (dc_behind D t) then 1 else 0), max b.2 (1 + dc_chain D 1001 (dc_behind D t)))) ((D.2.1.length : Int), 0)).2 ∧ (upto n (fun t (b : Int × Int) => (b.1 - (if 1 < 1 + dc_chain D 1001 (dc_behind D t) then 1 else 0), max b.2 (1 + dc_chain D 1001 (dc_behind D t)))) ((D.2.1.length : Int), 0)).2 ≤ 1002 := by
  induction n with
  | zero =>
    refine ⟨⟨?_, ?_⟩, ?_, ?_⟩
    · show (D.2.1.length : Int) - ((0 : Nat) : Int) ≤ (D.2.1.length : Int); omega
    · exact Int.le_refl _
    · exact Int.le_refl _
    · show (0 : Int) ≤ 1002; omega
  | succ n ih =>
    rw [upto_s]
    generalize upto n (fun t (b : Int × Int) => (b.1 - (if 1 < 1 + dc_chain D 1001 (dc_behind D t) then 1 else 0), max b.2 (1 + dc_chain D 1001 (dc_behind D t)))) ((D.2.1.length : Int), 0) = b at ih ⊢
    have := dc_chain_r D 1001 (dc_behind D n)
    refine ⟨?_, ?_⟩
    · show (_ ≤ b.1 - (if 1 < 1 + dc_chain D 1001 (dc_behind D n) then 1 else 0) ∧ b.1 - (if 1 < 1 + dc_chain D 1001 (dc_behind D n) then 1 else 0) ≤ _)
      split <;> omega
    · show 0 ≤ max b.2 _ ∧ max b.2 _ ≤ 1002
      omega
theorem cd_passages_ok {K : Option Nat → pw_W → Prop} (hd : 6 ≤ d) (hw : wf E w) (h : c_doc E w.1 w.1 a D) (hD : dc_ok D) (h10 : D.1.length ≤ 10) (hE : dc_ends D) (H : ∀ w', cx E w w' c_no 6 → w'.1 w.2.1 = some (1000, [.int (iI (dc_pas D).1), .int (iI (dc_pas D).2)]) → K (some w.2.1) w') : pw_Cl E m_X7_passages d [va_rf (some a)] w (c_r K) := by
  replace hd := pw_d1 hd; obtain ⟨e, rfl, hd⟩ := hd
  have hT := hD.2.2.2.1
  have gc : ∀ (vs : List Value), cx E w (pw_new w (1000, vs) 2) c_no 6 := fun vs => cx.new hw _ 2
  have gd : ∀ (vs : List Value), c_doc E (pw_new w (1000, vs) 2).1 (pw_new w (1000, vs) 2).1 a D := fun vs => h.mono (gc vs).sub1 (gc vs).sub1
  unfold dc_pas at H
  refine e_X7_passages _ (s_X7_passages_0 _ ⟨by decide, by decide, ?_⟩)
  show f_getr (pw_new w (1000, [.int 0, .int 0]) 2) (some a) 6 1 _
  obtain ⟨lv, lt, ld, bt, ct, mt, ts, h1, h3, h7, h8⟩ := (gd [.int 0, .int 0]).toks
  refine ⟨a, _, _, rfl, h1, rfl, lt, _, rfl, h3.1, cl_size_ok (by omega) h3 ?_⟩
  rw [List.length_map, h7]
  refine p2_s0 hw (p2_s1 hw ?_)
  have key : ∀ (f t : Nat), t + f = D.2.1.length → pw_Wp E m_X7_passages (e + 1) 20 [some (va_rf (some a)), some (va_rf (some w.2.1)), some (.int (iI (t : Nat))), none, none] [] (pw_new w (1000, [.int (iI (upto t (fun t (b : Int × Int) => (b.1 - (if 1 < 1 + dc_chain D 1001 (dc_behind D t) then 1 else 0), max b.2 (1 + dc_chain D 1001 (dc_behind D t)))) ((D.2.1.length : Int), 0)).1), .int (iI (upto t (fun t (b : Int × Int) => (b.1 - (if 1 < 1 + dc_chain D 1001 (dc_behind D t) then 1 else 0), max b.2 (1 + dc_chain D 1001 (dc_behind D t)))) ((D.2.1.length : Int), 0)).2)]) 2) (c_r K) := by
    intro f
    induction f with
    | zero =>
      intro t ht
      have et : t = D.2.1.length := by omega
      subst et
      obtain ⟨lv, lt, ld, bt, ct, mt, ts, h1, h3, h7, h8⟩ := (gd [.int (iI (upto D.2.1.length (fun t (b : Int × Int) => (b.1 - (if 1 < 1 + dc_chain D 1001 (dc_behind D t) then 1 else 0), max b.2 (1 + dc_chain D 1001 (dc_behind D t)))) ((D.2.1.length : Int), 0)).1), .int (iI (upto D.2.1.length (fun t (b : Int × Int) => (b.1 - (if 1 < 1 + dc_chain D 1001 (dc_behind D t) then 1 else 0), max b.2 (1 + dc_chain D 1001 (dc_behind D t)))) ((D.2.1.length : Int), 0)).2)]).toks
      refine s_X7_passages_20 _ _ _ ⟨a, _, _, rfl, h1, rfl, lt, _, rfl, h3.1, cl_size_ok (by omega) h3 ?_⟩
      rw [List.length_map, h7]
      exact ifT (by rw [iI_len (by omega) (by omega)]; omega) ⟨_, rfl, H _ (gc _) (pw_new_1 _ _ _)⟩
    | succ f ih =>
      intro t ht
      have nx := ih (t + 1) (by omega)
      rw [upto_s] at nx
      have hr := dc_pas_r D t
      generalize upto t (fun t (b : Int × Int) => (b.1 - (if 1 < 1 + dc_chain D 1001 (dc_behind D t) then 1 else 0), max b.2 (1 + dc_chain D 1001 (dc_behind D t)))) ((D.2.1.length : Int), 0) = b at nx hr ⊢
      obtain ⟨lv, lt, ld, bt, ct, mt, ts, h1, h3, h7, h8⟩ := (gd [.int (iI b.1), .int (iI b.2)]).toks
      refine s_X7_passages_20 _ _ _ ⟨a, _, _, rfl, h1, rfl, lt, _, rfl, h3.1, cl_size_ok (by omega) h3 ?_⟩
      rw [List.length_map, h7]
      refine ifF (by rw [iI_len (by omega) (by omega)]; omega) (dq_behind (by omega) (gd _) hD h10 (by omega) ?_)
      have inn : ∀ (g : Nat) (n k : Int), dc_chain D (g + 1) k ≤ g → (k = -1 ∨ (0 ≤ k ∧ k < D.2.1.length)) → 1 ≤ n ∧ n + g ≤ 2000 → n + dc_chain D (g + 1) k = 1 + dc_chain D 1001 (dc_behind D t) → pw_Wp E m_X7_passages (e + 1) 40 [some (va_rf (some a)), some (va_rf (some w.2.1)), some (.int (iI (t : Nat))), some (.int (iI n)), some (.int (iI k))] [] (pw_new w (1000, [.int (iI b.1), .int (iI b.2)]) 2) (c_r K) := by
        intro g
        induction g with
        | zero =>
          intro n k hc hk hn he
          have hk1 : k = -1 := by
            rcases Classical.em (k = -1) with z | z
            · exact z
            · rw [dc_chain, if_neg z] at hc
              have := dc_chain_r D 0 (dc_behind D k)
              omega
          subst hk1
          rw [dc_chain, if_pos rfl, Int.add_zero] at he
          refine s_X7_passages_40 _ _ _ _ _ (ifT rfl (p2_0 ?_))
          have m1 : (iI n ≤ 1) = (n ≤ 1) := iI_le (b := 1) (rI_small (by omega) (by omega)) (rI_small (by omega) (by omega))
          have m2 : (if iI b.2 < iI n then iI n else iI b.2) = iI (max b.2 n) := by
            have m3 : (iI b.2 < iI n) = (b.2 < n) := iI_lt (rI_small (by omega) (by omega)) (rI_small (by omega) (by omega))
            by_cases z : b.2 < n
            · rw [if_pos (by rw [m3]; exact z), Int.max_eq_right (by omega)]
            · rw [if_neg (by rw [m3]; exact z), Int.max_eq_left (by omega)]
          rw [← he] at nx
          by_cases z : n ≤ 1
          · rw [if_neg (by omega), Int.sub_zero] at nx
            refine ifT (by rw [m1]; exact z) (p2_s0 hw (p2_1 ?_))
            rw [m2]
            refine p2_s1 hw ?_
            have e5 : iI b.1 - 0 = iI b.1 := by
              have := iI_sub b.1 0
              rw [Int.sub_zero] at this
              exact this
            rw [e5, iI_ad1]
            exact nx
          · rw [if_pos (by omega)] at nx
            refine ifF (by rw [m1]; exact z) (p2_s0 hw (p2_1 ?_))
            rw [m2]
            refine p2_s1 hw ?_
            have e5 : iI b.1 - 1 = iI (b.1 - 1) := iI_sub b.1 1
            rw [e5, iI_ad1]
            exact nx
        | succ g ih2 =>
          intro n k hc hk hn he
          by_cases z0 : k = -1
          · refine ih2 n k ?_ hk ⟨hn.1, by omega⟩ ?_
            · rw [dc_chain, if_pos z0]
              omega
            · rw [dc_chain, if_pos z0] at he ⊢
              exact he
          have hk' := hk.resolve_left z0
          have m1 : (iI k = -1) = (k = -1) := iI_eq (b := -1) (rI_small (by omega) (by omega)) (rI_small (by omega) (by omega))
          rw [dc_chain, if_neg z0] at hc he
          have ek : iI k = iI ((k.toNat : Nat) : Int) := by rw [Int.toNat_of_nonneg hk'.1]
          refine s_X7_passages_40 _ _ _ _ _ (ifF (by rw [m1]; exact z0) ?_)
          rw [ek]
          refine dq_behind (by omega) (gd _) hD h10 (by omega) ?_
          rw [iI_a1, Int.toNat_of_nonneg hk'.1]
          exact ih2 (n + 1) (dc_behind D k) (by omega) (dc_behind_r hD k) ⟨by omega, by omega⟩ (by omega)
      exact inn 1000 1 (dc_behind D t) (hE t (by omega)) (dc_behind_r hD t) ⟨by omega, by omega⟩ rfl
  exact key D.2.1.length 0 (by omega)
end
