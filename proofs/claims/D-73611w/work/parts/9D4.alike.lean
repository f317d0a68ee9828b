set_option maxRecDepth 100000
/-! the plain law: versions that are alike, dates, the longest common row -/
theorem upto_addn {α : Type} (H : Nat → α → α) (x : α) (a b : Nat) : upto (a + b) H x = upto b (fun v y => H (a + v) y) (upto a H x) := by
  induction b with
  | zero => rfl
  | succ b ih => rw [← Nat.add_assoc, upto_s, ih, upto_s]
theorem upto_tens {α : Type} (H : Nat → α → α) (x : α) (m : Nat) : upto (10 * m) H x = upto m (fun i a => upto 10 (fun v a => H (10 * i + v) a) a) x := by
  induction m with
  | zero => rfl
  | succ m ih =>
    rw [Nat.mul_succ, upto_addn, ih]
    rfl
theorem upto_guard {α : Type} (F : Nat → α → α) (x : α) (L : Nat) : ∀ m, L ≤ m → upto m (fun v a => if v < L then F v a else a) x = upto L F x := by
  intro m
  induction m with
  | zero => intro h; rw [show L = 0 by omega]; rfl
  | succ m ih =>
    intro h
    rw [upto_s]
    by_cases e : L = m + 1
    · subst e
      rw [if_pos (by omega), upto_s]
      congr 1
      exact upto_cg m (fun k a hk => if_pos (by omega))
    · rw [if_neg (by omega)]
      exact ih (by omega)
/-- documents and versions in one row of forty -/
theorem upto_flat {α : Type} (F : Nat → Nat → α → α) (L : Nat → Nat) {n : Nat} (hn : n ≤ 4) (hL : ∀ i, i < n → L i ≤ 10) (x : α) : upto n (fun i a => upto (L i) (fun v a => F i v a) a) x = upto 40 (fun k a => if k / 10 < n ∧ k % 10 < L (k / 10) then F (k / 10) (k % 10) a else a) x := by
  have e := upto_tens (fun k a => if k / 10 < n ∧ k % 10 < L (k / 10) then F (k / 10) (k % 10) a else a) x 4
  refine Eq.trans ?_ e.symm
  rw [← upto_guard (fun i a => upto (L i) (fun v a => F i v a) a) x n 4 hn]
  refine upto_cg 4 (fun i a hi => ?_)
  by_cases q : i < n
  · rw [if_pos q, ← upto_guard (fun v a => F i v a) a (L i) 10 (hL i q)]
    refine upto_cg 10 (fun v b hv => ?_)
    have e1 : (10 * i + v) / 10 = i := by omega
    have e2 : (10 * i + v) % 10 = v := by omega
    rw [e1, e2]
    by_cases z : v < L i
    · rw [if_pos z, if_pos ⟨q, z⟩]
    · rw [if_neg z, if_neg (fun y => z y.2)]
  · rw [if_neg q]
    have : ∀ m, upto m (fun v b => if (10 * i + v) / 10 < n ∧ (10 * i + v) % 10 < L ((10 * i + v) / 10) then F ((10 * i + v) / 10) ((10 * i + v) % 10) b else b) a = a ∨ 10 < m := by
      intro m
      induction m with
      | zero => exact Or.inl rfl
      | succ m ih =>
        by_cases z : 10 < m + 1
        · exact Or.inr z
        · rcases ih with ih | ih
          · refine Or.inl ?_
            rw [upto_s, ih, if_neg (fun y => q (by omega))]
          · omega
    exact ((this 10).resolve_right (by omega)).symm
section
variable {A : Nat → Int} {Ds : List dc} {g : Nat → Nat → Nat} {i v p j t i' v' : Nat} {D D' : dc}
abbrev isV (Ds : List dc) (k : Nat) : Prop := k / 10 < Ds.length ∧ k % 10 < (da_D Ds (k / 10)).1.length
theorem rl_ok.isVer (h : rl_ok A Ds g) (k : Nat) : a_isVer A (k / 10 : Nat) (k % 10 : Nat) = decide (isV Ds k) := by
  unfold a_isVer a_isDoc
  rw [h.A0.1]
  by_cases q : k / 10 < Ds.length
  · have hm := (h.dat (h.D0 q)).2.2.2.2.1
    rw [hm, Bool.eq_iff_iff, Bool.and_eq_true, decide_eq_true_eq, decide_eq_true_eq, decide_eq_true_eq]
    constructor
    · rintro ⟨-, z1, z2⟩
      refine ⟨q, ?_⟩
      omega
    · rintro ⟨-, z⟩
      have z : k % 10 < (da_D Ds (k / 10)).1.length := z
      refine ⟨⟨by omega, by omega⟩, by omega, ?_⟩
      omega
  · rw [decide_eq_false (fun z => q (by omega)), decide_eq_false (p := _ ∧ _ < (da_D Ds (k / 10)).1.length) (fun z => q z.1)]
    rfl
theorem rl_ok.isVer2 (h : rl_ok A Ds g) {x y : Int} : a_isVer A x y = da_isVer Ds x y := by
  unfold a_isVer a_isDoc da_isVer
  rw [h.A0.1]
  by_cases q : 0 ≤ x ∧ x ≤ (Ds.length : Int) - 1
  · have hm := (h.dat (h.D0 (i := x.toNat) (by omega))).2.2.2.2.1
    rw [show ((x.toNat : Nat) : Int) = x by omega] at hm
    rw [hm]
  · rw [decide_eq_false q]
    rfl
theorem rl_ok.flat {α : Type} (h : rl_ok A Ds g) (F : Nat → Nat → α → α) (x : α) : upto Ds.length (fun i a => upto (da_D Ds i).1.length (fun v a => F i v a) a) x = upto 40 (fun k a => if isV Ds k then F (k / 10) (k % 10) a else a) x :=
  upto_flat F (fun i => (da_D Ds i).1.length) h.A0.2.2 (fun i hi => (h.dat (h.D0 hi)).2.2.2.2.2.2.1) x
theorem rl_ok.dasum (h : rl_ok A Ds g) (F : Nat → Nat → Int) : da_sum Ds F = sm 40 (fun k => if isV Ds k then F (k / 10) (k % 10) else 0) := by
  have e := h.flat (fun i v n => n + F i v) (0 : Int)
  refine Eq.trans e ?_
  exact upto_cond (isV Ds) (fun k => F (k / 10) (k % 10)) 40
theorem dc_like_sym (D : dc) (v : Nat) (D' : dc) (v' : Nat) : dc_like D v D' v' = dc_like D' v' D v := by
  unfold dc_like
  by_cases q : dc_len D v = dc_len D' v'
  · rw [decide_eq_true q, decide_eq_true q.symm, q]
    congr 1
    refine all_cg (fun p _ => ?_)
    rw [decide_eq_decide]
    exact ⟨fun e => e.symm, fun e => e.symm⟩
  · rw [decide_eq_false q, decide_eq_false (fun z => q z.symm)]
    rfl
theorem rl_ok.tw (h : rl_ok A Ds g) (x y : Nat) : a_twin A x y = (decide (isV Ds x) && (decide (isV Ds y) && dc_like (da_D Ds (x / 10)) (x % 10) (da_D Ds (y / 10)) (y % 10))) := by
  unfold a_twin
  rw [h.isVer x, h.isVer y]
  by_cases a : isV Ds x
  · by_cases b : isV Ds y
    · rw [h.like (h.D0 a.1) a.2 (h.D0 b.1) b.2]
    · rw [decide_eq_false b]; rfl
  · rw [decide_eq_false a]; rfl
theorem rl_ok.twins (h : rl_ok A Ds g) : a_twins A = da_twins Ds := by
  have e1 : a_twins A = sm 40 (fun x => sm 40 (fun y => if y < x ∧ isV Ds x ∧ isV Ds y ∧ dc_like (da_D Ds (x / 10)) (x % 10) (da_D Ds (y / 10)) (y % 10) = true then 1 else 0)) := by
    unfold a_twins
    rw [upto_nest]
    refine sm_cg _ (fun x hx => ?_)
    rw [sm_lt (Nat.le_of_lt hx)]
    refine sm_cg _ (fun y hy => ?_)
    rw [h.tw]
    by_cases a : y < x
    · rw [if_pos a]
      simp only [Bool.and_eq_true, decide_eq_true_eq, a, true_and]
    · rw [if_neg a, if_neg (fun z => a z.1)]
  have e2 : da_twins Ds = sm 40 (fun x => sm 40 (fun y => if x < y ∧ isV Ds y ∧ isV Ds x ∧ dc_like (da_D Ds (y / 10)) (y % 10) (da_D Ds (x / 10)) (x % 10) = true then 1 else 0)) := by
    unfold da_twins
    rw [h.dasum]
    refine sm_cg _ (fun x hx => ?_)
    by_cases a : isV Ds x
    · rw [if_pos a, h.dasum]
      refine sm_cg _ (fun y hy => ?_)
      by_cases b : isV Ds y
      · rw [if_pos b]
        unfold da_likeP
        rw [dc_like_sym]
        have e : ((x / 10 < y / 10 ∨ (y / 10 = x / 10 ∧ x % 10 < y % 10)) ∧ dc_like (da_D Ds (y / 10)) (y % 10) (da_D Ds (x / 10)) (x % 10) = true) = (x < y ∧ isV Ds y ∧ isV Ds x ∧ dc_like (da_D Ds (y / 10)) (y % 10) (da_D Ds (x / 10)) (x % 10) = true) := by
          rw [eq_iff_iff]
          constructor
          · rintro ⟨z, z2⟩
            exact ⟨by omega, b, a, z2⟩
          · rintro ⟨z, -, -, z2⟩
            exact ⟨by omega, z2⟩
        simp only [e]
      · rw [if_neg b, if_neg (fun z => b z.2.1)]
    · rw [if_neg a]
      exact (sm_z _ (fun y _ => if_neg (fun z => a z.2.2.1))).symm
  rw [e1, e2, sm_swap]
/-! dates -/
theorem rl_ok.date (h : rl_ok A Ds g) (hdt : rl_dt A Ds) {k : Nat} (hk : isV Ds k) : A (6 + k) = (da_D Ds (k / 10)).2.2.getD (k % 10) 0 ∧ k % 10 < (da_D Ds (k / 10)).2.2.length := by
  have hD := h.D0 hk.1
  have hl := (h.dat hD).2.2.2.2.2.2.2.2.2.1
  obtain ⟨x, hx⟩ := dc_get (l := (da_D Ds (k / 10)).2.2) (i := k % 10) (by rw [← hl]; exact hk.2)
  have e := hdt _ _ (k % 10) x hD hx
  rw [show 6 + (10 * (k / 10) + k % 10) = 6 + k by omega] at e
  exact ⟨by rw [e, dc_getD hx], (List.getElem?_eq_some_iff.mp hx).1⟩
theorem dat_no {A : Nat → Int} {q : Int} : ∀ (f i : Nat), (∀ k, i ≤ k → k < i + f → a_isVer A (k / 10 : Nat) (k % 10 : Nat) = true → A (6 + k) ≠ q) → a_dat A q f i = -1 := by
  intro f
  induction f with
  | zero => intro i _; rfl
  | succ f ih =>
    intro i hn
    show (if a_isVer A (i / 10 : Nat) (i % 10 : Nat) = true then (if A (6 + i) = q then ((i / 10 : Nat) : Int) else a_dat A q f (i + 1)) else a_dat A q f (i + 1)) = -1
    have := ih (i + 1) (fun k h1 h2 => hn k (by omega) (by omega))
    by_cases a : a_isVer A (i / 10 : Nat) (i % 10 : Nat) = true
    · rw [if_pos a, if_neg (hn i (by omega) (by omega) a), this]
    · rw [if_neg a, this]
theorem dat_at {A : Nat → Int} {q : Int} {i0 : Nat} : ∀ (f i : Nat), (∃ k, i ≤ k ∧ k < i + f ∧ a_isVer A (k / 10 : Nat) (k % 10 : Nat) = true ∧ A (6 + k) = q ∧ k / 10 = i0) → (∀ k, i ≤ k → k < i + f → a_isVer A (k / 10 : Nat) (k % 10 : Nat) = true → A (6 + k) = q → i0 ≤ k / 10) → a_dat A q f i = i0 := by
  intro f
  induction f with
  | zero => rintro i ⟨k, h1, h2, -⟩ _; omega
  | succ f ih =>
    rintro i ⟨k, h1, h2, h3, h4, h5⟩ hn
    show (if a_isVer A (i / 10 : Nat) (i % 10 : Nat) = true then (if A (6 + i) = q then ((i / 10 : Nat) : Int) else a_dat A q f (i + 1)) else a_dat A q f (i + 1)) = i0
    by_cases a : a_isVer A (i / 10 : Nat) (i % 10 : Nat) = true ∧ A (6 + i) = q
    · rw [if_pos a.1, if_pos a.2]
      have := hn i (by omega) (by omega) a.1 a.2
      omega
    · have hk : i + 1 ≤ k := by
        rcases Nat.lt_or_ge i k with z | z
        · exact z
        · have : k = i := by omega
          subst this
          exact absurd ⟨h3, h4⟩ a
      have := ih (i + 1) ⟨k, hk, by omega, h3, h4, h5⟩ (fun k h1 h2 => hn k (by omega) (by omega))
      by_cases b : a_isVer A (i / 10 : Nat) (i % 10 : Nat) = true
      · rw [if_pos b, if_neg (fun z => a ⟨b, z⟩), this]
      · rw [if_neg b, this]
theorem rl_ok.dated (h : rl_ok A Ds g) (hdt : rl_dt A Ds) {x r : Int} (hr : da_datedP Ds x r) : a_dat A x 40 0 = r := by
  have mem : ∀ k, a_isVer A (k / 10 : Nat) (k % 10 : Nat) = true → A (6 + k) = x → k / 10 < Ds.length ∧ x ∈ (da_D Ds (k / 10)).2.2 := by
    intro k hk hx
    rw [h.isVer] at hk
    have hk := of_decide_eq_true hk
    obtain ⟨e1, e2⟩ := h.date hdt hk
    refine ⟨hk.1, ?_⟩
    rw [← hx, e1]
    obtain ⟨y, hy⟩ := dc_get e2
    rw [dc_getD hy]
    exact List.mem_of_getElem? hy
  rcases hr with ⟨rfl, hno⟩ | ⟨i, D, rfl, hi, hx, hb⟩
  · refine dat_no 40 0 (fun k _ _ hk hx => ?_)
    obtain ⟨m1, m2⟩ := mem k hk hx
    exact hno _ _ (h.D0 m1) m2
  · refine dat_at 40 0 ?_ (fun k _ _ hk hxk => ?_)
    · obtain ⟨v, hv⟩ := List.getElem?_of_mem hx
      have hvl := (List.getElem?_eq_some_iff.mp hv).1
      obtain ⟨⟨g1, g2⟩, g3, g4, g5, g6, g7, g8, g9, g10⟩ := h.dat hi
      have hlen := g10.2.1
      have e1 : (10 * i + v) / 10 = i := by omega
      have e2 : (10 * i + v) % 10 = v := by omega
      refine ⟨10 * i + v, by omega, by omega, ?_, ?_, e1⟩
      · rw [h.isVer, decide_eq_true_eq]
        show (10 * i + v) / 10 < Ds.length ∧ (10 * i + v) % 10 < (da_D Ds ((10 * i + v) / 10)).1.length
        rw [e1, e2, g9]
        exact ⟨g3, by omega⟩
      · exact hdt i D v x hi hv
    · obtain ⟨m1, m2⟩ := mem k hk hxk
      rcases Nat.lt_or_ge (k / 10) i with z | z
      · exact absurd m2 (hb _ _ z (h.D0 m1))
      · exact z
/-! the longest common row -/
theorem rl_ok.lcs (h : rl_ok A Ds g) (hi : Ds[i]? = some D) (hv : v < D.1.length) (hi' : Ds[i']? = some D') (hv' : v' < D'.1.length) : ∀ n m, n ≤ dc_len D v → m ≤ dc_len D' v' → a_lcs A i v i' v' n m = dc_lcs (fun p q => decide (dc_w D v p = dc_w D' v' q)) n m := by
  intro n
  induction n with
  | zero => intro m _ _; rfl
  | succ n ih =>
    intro m hn
    induction m with
    | zero => intro _; rfl
    | succ m jh =>
      intro hm
      have a1 : a_lcs A i v i' v' (n + 1) (m + 1) = if a_wordAt A i v n = a_wordAt A i' v' m then a_lcs A i v i' v' n m + 1 else max (a_lcs A i v i' v' n (m + 1)) (a_lcs A i v i' v' (n + 1) m) := rfl
      rw [a1, dc_lcs_s, ih m (by omega) (by omega), ih (m + 1) (by omega) hm, jh (by omega)]
      obtain ⟨e1, e2, e3⟩ := h.wd hi' hv' (p := m) (by omega)
      have e := h.weq hi hv (p := n) (by omega) e2 e3
      rw [e1]
      simp only [e, decide_eq_true_eq]
end
