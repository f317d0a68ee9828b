set_option maxRecDepth 100000
/-! the plain law: what is asked of a document -/
theorem all_cg {n : Nat} {p q : Nat → Bool} (h : ∀ k, k < n → p k = q k) : (List.range n).all p = (List.range n).all q := by
  rw [Bool.eq_iff_iff, List.all_eq_true, List.all_eq_true]
  exact ⟨fun z x hx => by rw [← h x (List.mem_range.mp hx)]; exact z x hx, fun z x hx => by rw [h x (List.mem_range.mp hx)]; exact z x hx⟩
theorem any_cg {n : Nat} {p q : Nat → Bool} (h : ∀ k, k < n → p k = q k) : (List.range n).any p = (List.range n).any q := by
  rw [Bool.eq_iff_iff, List.any_eq_true, List.any_eq_true]
  exact ⟨fun ⟨x, hx, z⟩ => ⟨x, hx, by rw [← h x (List.mem_range.mp hx)]; exact z⟩, fun ⟨x, hx, z⟩ => ⟨x, hx, by rw [h x (List.mem_range.mp hx)]; exact z⟩⟩
/-- a row's sum is one over all tokens -/
theorem row_sum {row : List Nat} {n : Nat} (hn : row.Nodup) (hl : ∀ j ∈ row, j < n) (F : Nat → Nat → Int) : sm row.length (fun p => F p (row.getD p 0)) = sm n (fun j => if j ∈ row then F (dc_place row j).toNat j else 0) := by
  have e1 : sm row.length (fun p => F p (row.getD p 0)) = sm row.length (fun p => sm n (fun j => if row.getD p 0 = j then F p j else 0)) := by
    refine sm_cg _ (fun p hp => ?_)
    obtain ⟨j, hj⟩ := dc_get hp
    have hg : row.getD p 0 = j := dc_getD hj
    rw [hg, sm_one (f := fun k => if j = k then F p k else 0) (hl j (List.mem_of_getElem? hj)) (fun k _ hk => if_neg (fun q => hk q.symm)), if_pos rfl]
  rw [e1, sm_swap]
  refine sm_cg _ (fun j _ => ?_)
  by_cases hm : j ∈ row
  · rw [if_pos hm]
    obtain ⟨p, hp⟩ := List.getElem?_of_mem hm
    have hpl := (List.getElem?_eq_some_iff.mp hp).1
    have hg : row.getD p 0 = j := dc_getD hp
    rw [dc_place_at hn hp, sm_one (f := fun p => if row.getD p 0 = j then F p j else 0) hpl (fun k hk hne => if_neg (fun q => ?_)), if_pos hg]
    · rfl
    · obtain ⟨j', hj'⟩ := dc_get hk
      have hg' : row.getD k 0 = j' := dc_getD hj'
      rw [hg'] at q
      subst q
      obtain ⟨a1, a2⟩ := List.getElem?_eq_some_iff.mp hp
      obtain ⟨b1, b2⟩ := List.getElem?_eq_some_iff.mp hj'
      exact hne ((List.getElem_inj hn).mp (b2.trans a2.symm))
  · rw [if_neg hm]
    refine sm_z _ (fun p hp => if_neg (fun q => hm ?_))
    obtain ⟨j', hj'⟩ := dc_get hp
    have hg' : row.getD p 0 = j' := dc_getD hj'
    rw [hg'] at q
    rw [← q]
    exact List.mem_of_getElem? hj'
theorem dc_place_mem {row : List Nat} {j : Nat} : dc_place row j = -1 ↔ j ∉ row := ⟨fun e hm => dc_pl_mem j row 0 hm e, dc_place_no⟩
section
variable {A : Nat → Int} {Ds : List dc} {g : Nat → Nat → Nat} {i v p j i' v' : Nat} {D D' : dc} {row : List Nat} {s : List Int}
theorem rl_ok.wd (h : rl_ok A Ds g) (hi : Ds[i]? = some D) (hv : v < D.1.length) (hp : p < dc_len D v) : a_wordAt A i v p = s_code (dc_w D v p) ∧ (∀ c ∈ dc_w D v p, 97 ≤ c ∧ c ≤ 122) ∧ 1 ≤ (dc_w D v p).length ∧ (dc_w D v p).length ≤ 4 := h.wordAt hi (h.r0 hi hv) hp
theorem rl_ok.weq (h : rl_ok A Ds g) (hi : Ds[i]? = some D) (hv : v < D.1.length) (hp : p < dc_len D v) (hs : ∀ c ∈ s, 97 ≤ c ∧ c ≤ 122) (hl : 1 ≤ s.length ∧ s.length ≤ 4) : (a_wordAt A i v p = s_code s) = (dc_w D v p = s) := by
  obtain ⟨e1, e2, e3⟩ := h.wd hi hv hp
  rw [e1, eq_iff_iff]
  exact ⟨s_code_inj e2 hs e3 hl, fun q => by rw [q]⟩
theorem rl_ok.like (h : rl_ok A Ds g) (hi : Ds[i]? = some D) (hv : v < D.1.length) (hi' : Ds[i']? = some D') (hv' : v' < D'.1.length) : a_alike A i v i' v' = dc_like D v D' v' := by
  unfold a_alike dc_like
  rw [(h.len hi hv).1, (h.len hi' hv').1]
  have e : (((dc_len D v : Nat) : Int) = (dc_len D' v' : Nat)) = (dc_len D v = dc_len D' v') := by rw [eq_iff_iff]; omega
  simp only [e, Int.toNat_natCast]
  by_cases q : dc_len D v = dc_len D' v'
  · congr 1
    refine all_cg (fun p hp => ?_)
    obtain ⟨e1, e2, e3⟩ := h.wd hi' hv' (p := p) (by omega)
    rw [e1]
    congr 1
    exact h.weq hi hv hp e2 e3
  · rw [decide_eq_false q]
    rfl
theorem rl_ok.rets (h : rl_ok A Ds g) (hi : Ds[i]? = some D) : a_returns A i = dc_returns D := by
  obtain ⟨⟨g1, g2⟩, g3, g4, g5, g6, g7, g8, g9, g10⟩ := h.dat hi
  unfold a_returns dc_returns
  rw [g6, Int.toNat_natCast]
  have ret : ∀ v, v < D.1.length → a_ret A i v = ((List.range (v - 1)).any (fun e => dc_like D v D e) && !dc_like D v D (v - 1)) := by
    intro v hv
    unfold a_ret
    rw [Int.toNat_natCast]
    have hl := h.like hi hv hi (v' := v - 1) (by omega)
    cases v with
    | zero =>
      show ((List.range 0).any _ && _) = ((List.range 0).any _ && _)
      rfl
    | succ v =>
      have ec : ((v + 1 : Nat) : Int) - 1 = ((v + 1 - 1 : Nat) : Int) := by omega
      rw [ec, hl, any_succ, any_cg (q := fun e => dc_like D (v + 1) D e) (fun k hk => h.like hi hv hi (v' := k) (by omega)), h.like hi hv hi (v' := v) (by omega)]
      show (((List.range v).any _ || dc_like D (v + 1) D v) && !dc_like D (v + 1) D v) = ((List.range v).any _ && !dc_like D (v + 1) D v)
      cases dc_like D (v + 1) D v <;> simp
  show sm _ _ = sm _ _
  have e0 : D.1.length - 1 = 0 ∨ ∃ n, D.1.length - 1 = n + 1 ∧ D.1.length - 2 = n := by
    rcases Nat.eq_zero_or_pos (D.1.length - 1) with q | q
    · exact Or.inl q
    · exact Or.inr ⟨D.1.length - 2, by omega, rfl⟩
  rcases e0 with e0 | ⟨n, e1, e2⟩
  · rw [e0, show D.1.length - 2 = 0 by omega]
    rfl
  · rw [e1, e2]
    have sh : ∀ (f : Nat → Int) (n : Nat), sm (n + 1) f = f 0 + sm n (fun k => f (k + 1)) := by
      intro f n
      induction n with
      | zero => show 0 + f 0 = f 0 + 0; omega
      | succ n ih => rw [sm_s, ih, sm_s]; omega
    rw [sh]
    have z : (if a_ret A i ((0 : Nat) + 1) = true then (1 : Int) else 0) = 0 := by
      have := ret 1 (by omega)
      rw [show (((0 : Nat) : Int) + 1) = ((1 : Nat) : Int) from rfl, this]
      rfl
    show (if a_ret A i (((0 : Nat) : Int) + 1) = true then (1 : Int) else 0) + _ = _
    rw [z, Int.zero_add]
    refine sm_cg _ (fun k hk => ?_)
    show (if a_ret A i (((k + 1 : Nat) : Int) + 1) = true then (1 : Int) else 0) = _
    have := ret (k + 2) (by omega)
    rw [show (((k + 1 : Nat) : Int) + 1) = ((k + 2 : Nat) : Int) by omega, this]
    rfl
theorem full_10 : ∀ x : Fin 1024, ((List.range 10).all (fun k => !s_has ((x : Nat) : Int) ((k : Nat) : Int) || decide ((k : Int) < s_ones ((x : Nat) : Int)))) = true → (x : Nat) = 2 ^ (s_ones ((x : Nat) : Int)).toNat - 1 := by decide +kernel
theorem full_11 : ∀ n : Fin 11, s_ones ((2 ^ (n : Nat) - 1 : Nat) : Int) = ((n : Nat) : Int) := by decide +kernel
theorem full_eq {n : Nat} {x : Int} (hn : n ≤ 10) (hx : 0 ≤ x ∧ x < 1024) (hb : ∀ k : Nat, k < 10 → s_has x k = true → k < n) : (s_ones x = n) = (x = ((2 ^ n - 1 : Nat) : Int)) := by
  rw [eq_iff_iff]
  constructor
  · intro e
    have ex : ((x.toNat : Nat) : Int) = x := by omega
    have hk := full_10 ⟨x.toNat, by omega⟩ (by
      show ((List.range 10).all (fun k => !s_has ((x.toNat : Nat) : Int) ((k : Nat) : Int) || decide ((k : Int) < s_ones ((x.toNat : Nat) : Int)))) = true
      rw [ex]
      refine List.all_eq_true.mpr (fun k hk => ?_)
      have hk := List.mem_range.mp hk
      have hb' := hb k hk
      cases q : s_has x k with
      | false => rfl
      | true => rw [decide_eq_true (by have := hb' q; omega : (k : Int) < s_ones x)]; rfl)
    have hk : x.toNat = 2 ^ (s_ones ((x.toNat : Nat) : Int)).toNat - 1 := hk
    rw [ex, e, Int.toNat_natCast] at hk
    omega
  · intro e
    rw [e]
    exact full_11 ⟨n, by omega⟩
theorem rl_ok.kept (h : rl_ok A Ds g) (hi : Ds[i]? = some D) : a_kept A (A 5) i = dc_kept D := by
  obtain ⟨⟨g1, g2⟩, g3, g4, g5, g6, g7, g8, g9, g10⟩ := h.dat hi
  have e := h.enum (F := fun t a => a + (if s_ones (a_where A (t : Nat)) = a_many A i then (1 : Int) else 0)) (x := (0 : Int)) hi
  refine Eq.trans ?_ (e.trans ?_)
  · refine upto_cg _ (fun t c ht => ?_)
    by_cases q : a_whose A (t : Nat) = i
    · rw [if_pos q]
      by_cases q2 : s_ones (a_where A (t : Nat)) = a_many A i
      · rw [if_pos ⟨q, q2⟩, if_pos q2]
      · rw [if_neg (fun z => q2 z.2), if_neg q2]
    · rw [if_neg q, if_neg (fun z => q z.1)]
      omega
  · refine upto_cg _ (fun j c hj => ?_)
    show c + (if s_ones (a_where A (g i j : Nat)) = a_many A i then (1 : Int) else 0) = _
    rw [h.whereAt hi hj, g6]
    have := full_eq (n := D.1.length) (x := dc_set D.1 j) g8 (dc_set_r g8) (fun k hk hs => by
      rw [dc_set_has g8 hk] at hs
      simp at hs
      exact hs.1)
    simp only [this]
theorem rl_ok.fresh (h : rl_ok A Ds g) (hi : Ds[i]? = some D) (hv : v < D.1.length) : a_fresh A i v = dc_fresh D v := by
  unfold a_fresh dc_fresh
  rw [(h.len hi hv).1, Int.toNat_natCast]
  refine upto_cg _ (fun p n hp => ?_)
  have hr := h.r0 hi hv
  obtain ⟨j, hj⟩ := dc_get (l := dc_row D v) (i := p) hp
  obtain ⟨e1, e2, e3⟩ := h.tokAt hi hr hj
  rw [e1, dc_getD hj, h.whereAt hi e2]
theorem rl_ok.oldest (h : rl_ok A Ds g) (hi : Ds[i]? = some D) (hv : v < D.1.length) : a_oldest A i v = dc_oldest D v := by
  unfold a_oldest dc_oldest
  rw [(h.len hi hv).1, Int.toNat_natCast]
  refine upto_cg _ (fun p n hp => ?_)
  have hr := h.r0 hi hv
  obtain ⟨j, hj⟩ := dc_get (l := dc_row D v) (i := p) hp
  obtain ⟨e1, e2, e3⟩ := h.tokAt hi hr hj
  rw [e1, dc_getD hj, h.whereAt hi e2]
theorem rl_ok.setHas (h : rl_ok A Ds g) (hi : Ds[i]? = some D) (hv : v < D.1.length) (j : Nat) : s_has (dc_set D.1 j) v = decide (j ∈ dc_row D v) := by
  obtain ⟨⟨g1, g2⟩, g3, g4, g5, g6, g7, g8, g9, g10⟩ := h.dat hi
  rw [dc_set_has g8 (by omega), decide_eq_true hv]
  rfl
theorem rl_ok.shared (h : rl_ok A Ds g) (hi : Ds[i]? = some D) (hv : v < D.1.length) (hv' : v' < D.1.length) : a_shared A i v v' = dc_shared D v v' := by
  obtain ⟨r1, r2, r3, r4, r5, r6, r7⟩ := h.rw1 hi (h.r0 hi hv)
  show sm _ _ = sm _ _
  rw [(h.len hi hv).1, Int.toNat_natCast]
  have e : sm (dc_len D v) (fun p => if a_place A i v' (a_tok A i v p) = -1 then 0 else 1) = sm (dc_row D v).length (fun p => (fun (_ j : Nat) => if dc_place (dc_row D v') j = -1 then (0 : Int) else 1) p ((dc_row D v).getD p 0)) := by
    refine sm_cg _ (fun p hp => ?_)
    obtain ⟨j, hj⟩ := dc_get (l := dc_row D v) (i := p) hp
    obtain ⟨e1, e2, e3⟩ := h.tokAt hi (h.r0 hi hv) hj
    rw [e1, dc_getD hj, h.place hi (h.r0 hi hv') e2]
  refine (e.trans (row_sum r7 r6 (fun _ j => if dc_place (dc_row D v') j = -1 then (0 : Int) else 1))).trans ?_
  refine sm_cg _ (fun j hj => ?_)
  show (if j ∈ dc_row D v then (if dc_place (dc_row D v') j = -1 then (0 : Int) else 1) else 0) = _
  rw [h.setHas hi hv, h.setHas hi hv']
  by_cases q1 : j ∈ dc_row D v
  · rw [if_pos q1, decide_eq_true q1]
    by_cases q2 : j ∈ dc_row D v'
    · rw [if_neg (fun z => dc_place_mem.mp z q2), decide_eq_true q2]; rfl
    · rw [if_pos (dc_place_mem.mpr q2), decide_eq_false q2]; rfl
  · rw [if_neg q1, decide_eq_false q1]; rfl
theorem rl_ok.lost (h : rl_ok A Ds g) (hi : Ds[i]? = some D) (hv : v < D.1.length) : a_lost A i v = dc_lost D v := by
  unfold a_lost dc_lost
  by_cases z : v = 0
  · rw [if_pos z, if_pos (by omega)]
  · rw [if_neg z, if_neg (by omega)]
    have ev : (v : Int) - 1 = ((v - 1 : Nat) : Int) := by omega
    rw [ev, ← h.shared hi (v := v - 1) (v' := v) (by omega) hv]
    have hl := h.len hi (v := v - 1) (by omega)
    show sm _ _ = _
    show _ = _ - sm _ _
    rw [hl.1, Int.toNat_natCast, show ((dc_len D (v - 1) : Nat) : Int) = sm (dc_len D (v - 1)) (fun _ => 1) by rw [sm_c]; omega, ← sm_sub]
    refine sm_cg _ (fun p _ => ?_)
    split <;> rfl
theorem sm_lt {f : Nat → Int} {n q : Nat} (hq : q ≤ n) : sm q f = sm n (fun p => if p < q then f p else 0) := by
  induction n with
  | zero => rw [show q = 0 by omega]; rfl
  | succ n ih =>
    rw [sm_s]
    by_cases e : q = n + 1
    · subst e
      rw [sm_s, if_pos (by omega)]
      congr 1
      exact sm_cg _ (fun k hk => (if_pos (by omega)).symm)
    · rw [ih (by omega), if_neg (by omega)]
      omega
theorem rl_ok.turned (h : rl_ok A Ds g) (hi : Ds[i]? = some D) (hv : v < D.1.length) : a_turned A i v = dc_turned D v := by
  unfold a_turned dc_turned
  by_cases z : v = 0
  · rw [if_pos z, if_pos (by omega)]
  rw [if_neg z, if_neg (by omega)]
  have ev : (v : Int) - 1 = ((v - 1 : Nat) : Int) := by omega
  rw [ev]
  have hu : v - 1 < D.1.length := by omega
  have ru := h.r0 hi hu
  have rv := h.r0 hi hv
  obtain ⟨r1, r2, r3, r4, r5, r6, r7⟩ := h.rw1 hi ru
  obtain ⟨s1, s2, s3, s4, s5, s6, s7⟩ := h.rw1 hi rv
  rw [(h.len hi hu).1, Int.toNat_natCast, upto_nest, upto_nest, r5, s5]
  generalize dc_row D (v - 1) = was at ru r6 r7 ⊢
  generalize dc_row D v = row at rv s6 s7 ⊢
  have eA : sm was.length (fun q => sm q (fun p => if a_place A i v (a_tok A i ((v - 1 : Nat) : Int) p) = -1 then 0 else if a_place A i v (a_tok A i ((v - 1 : Nat) : Int) q) = -1 then 0 else if a_place A i v (a_tok A i ((v - 1 : Nat) : Int) p) ≤ a_place A i v (a_tok A i ((v - 1 : Nat) : Int) q) then 0 else 1)) = sm D.2.1.length (fun y => sm D.2.1.length (fun x => if y ∈ was then (if x ∈ was then (if dc_place was x < dc_place was y then (if x ∈ row then (if y ∈ row then (if dc_place row y < dc_place row x then 1 else 0) else 0) else 0) else 0) else 0) else 0)) := by
    have e1 : sm was.length (fun q => sm q (fun p => if a_place A i v (a_tok A i ((v - 1 : Nat) : Int) p) = -1 then 0 else if a_place A i v (a_tok A i ((v - 1 : Nat) : Int) q) = -1 then 0 else if a_place A i v (a_tok A i ((v - 1 : Nat) : Int) p) ≤ a_place A i v (a_tok A i ((v - 1 : Nat) : Int) q) then 0 else 1)) = sm was.length (fun q => (fun (q y : Nat) => sm was.length (fun p => (fun (p x : Nat) => if p < q then dc_turnP row was p q else 0) p (was.getD p 0))) q (was.getD q 0)) := by
      refine sm_cg _ (fun q hq => ?_)
      rw [sm_lt (Nat.le_of_lt hq)]
      refine sm_cg _ (fun p hp => ?_)
      show _ = if p < q then dc_turnP row was p q else 0
      split
      · obtain ⟨x, hx⟩ := dc_get hp
        obtain ⟨y, hy⟩ := dc_get hq
        obtain ⟨e1, e2, e3⟩ := h.tokAt hi ru hx
        obtain ⟨f1, f2, f3⟩ := h.tokAt hi ru hy
        rw [e1, f1, h.place hi rv e2, h.place hi rv f2]
        unfold dc_turnP
        rw [dc_getD hx, dc_getD hy]
      · rfl
    refine (e1.trans (row_sum r7 r6 (fun q _ => sm was.length (fun p => if p < q then dc_turnP row was p q else 0)))).trans ?_
    refine sm_cg _ (fun y hy => ?_)
    by_cases qy : y ∈ was
    · rw [if_pos qy]
      refine (row_sum r7 r6 (fun p _ => if p < (dc_place was y).toNat then dc_turnP row was p (dc_place was y).toNat else 0)).trans ?_
      refine sm_cg _ (fun x hx => ?_)
      rw [if_pos qy]
      by_cases qx : x ∈ was
      · rw [if_pos qx, if_pos qx]
        obtain ⟨p, hp⟩ := List.getElem?_of_mem qx
        obtain ⟨q, hq⟩ := List.getElem?_of_mem qy
        rw [dc_place_at r7 hp, dc_place_at r7 hq, Int.toNat_natCast, Int.toNat_natCast]
        have e : ((p : Int) < q) = (p < q) := by rw [eq_iff_iff]; omega
        simp only [e]
        split
        · unfold dc_turnP
          rw [dc_getD hp, dc_getD hq]
          by_cases tx : x ∈ row
          · rw [if_neg (fun z => dc_place_mem.mp z tx), if_pos tx]
            by_cases ty : y ∈ row
            · rw [if_neg (fun z => dc_place_mem.mp z ty), if_pos ty]
              by_cases le : dc_place row x ≤ dc_place row y
              · rw [if_pos le, if_neg (by omega)]
              · rw [if_neg le, if_pos (by omega)]
            · rw [if_pos (dc_place_mem.mpr ty), if_neg ty]
          · rw [if_pos (dc_place_mem.mpr tx), if_neg tx]
        · rfl
      · rw [if_neg qx, if_neg qx]
    · rw [if_neg qy]
      exact (sm_z _ (fun k _ => by rw [if_neg qy])).symm
  have eB : sm row.length (fun b => sm b (fun a => dc_turnP was row a b)) = sm D.2.1.length (fun y => sm D.2.1.length (fun x => if y ∈ row then (if x ∈ row then (if dc_place row x < dc_place row y then (if x ∈ was then (if y ∈ was then (if dc_place was y < dc_place was x then 1 else 0) else 0) else 0) else 0) else 0) else 0)) := by
    have e1 : sm row.length (fun q => sm q (fun p => dc_turnP was row p q)) = sm row.length (fun q => (fun (q y : Nat) => sm row.length (fun p => (fun (p x : Nat) => if p < q then dc_turnP was row p q else 0) p (row.getD p 0))) q (row.getD q 0)) := by
      refine sm_cg _ (fun q hq => ?_)
      rw [sm_lt (Nat.le_of_lt hq)]
    refine (e1.trans (row_sum s7 s6 (fun q _ => sm row.length (fun p => if p < q then dc_turnP was row p q else 0)))).trans ?_
    refine sm_cg _ (fun y hy => ?_)
    by_cases qy : y ∈ row
    · rw [if_pos qy]
      refine (row_sum s7 s6 (fun p _ => if p < (dc_place row y).toNat then dc_turnP was row p (dc_place row y).toNat else 0)).trans ?_
      refine sm_cg _ (fun x hx => ?_)
      rw [if_pos qy]
      by_cases qx : x ∈ row
      · rw [if_pos qx, if_pos qx]
        obtain ⟨p, hp⟩ := List.getElem?_of_mem qx
        obtain ⟨q, hq⟩ := List.getElem?_of_mem qy
        rw [dc_place_at s7 hp, dc_place_at s7 hq, Int.toNat_natCast, Int.toNat_natCast]
        have e : ((p : Int) < q) = (p < q) := by rw [eq_iff_iff]; omega
        simp only [e]
        split
        · unfold dc_turnP
          rw [dc_getD hp, dc_getD hq]
          by_cases tx : x ∈ was
          · rw [if_neg (fun z => dc_place_mem.mp z tx), if_pos tx]
            by_cases ty : y ∈ was
            · rw [if_neg (fun z => dc_place_mem.mp z ty), if_pos ty]
              by_cases le : dc_place was x ≤ dc_place was y
              · rw [if_pos le, if_neg (by omega)]
              · rw [if_neg le, if_pos (by omega)]
            · rw [if_pos (dc_place_mem.mpr ty), if_neg ty]
          · rw [if_pos (dc_place_mem.mpr tx), if_neg tx]
        · rfl
      · rw [if_neg qx, if_neg qx]
    · rw [if_neg qy]
      exact (sm_z _ (fun k _ => by rw [if_neg qy])).symm
  rw [eA, eB, sm_swap]
  refine sm_cg _ (fun x _ => sm_cg _ (fun y _ => ?_))
  by_cases a : x ∈ was <;> by_cases b : y ∈ was <;> by_cases c : x ∈ row <;> by_cases d : y ∈ row <;> simp only [a, b, c, d, if_true, if_false] <;> (repeat' split) <;> first | rfl | omega
end
