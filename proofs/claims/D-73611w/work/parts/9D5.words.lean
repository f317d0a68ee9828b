set_option maxRecDepth 100000
/-! the plain law: words by letters -/
theorem sorted_ext : ∀ {l m : List Int}, l.Pairwise (· < ·) → m.Pairwise (· < ·) → (∀ x, x ∈ l ↔ x ∈ m) → l = m
  | [], [], _, _, _ => rfl
  | [], y :: m, _, _, h => absurd ((h y).mpr List.mem_cons_self) (by simp)
  | x :: l, [], _, _, h => absurd ((h x).mp List.mem_cons_self) (by simp)
  | x :: l, y :: m, hl, hm, h => by
    obtain ⟨l1, l2⟩ := List.pairwise_cons.mp hl
    obtain ⟨m1, m2⟩ := List.pairwise_cons.mp hm
    have e : x = y := by
      rcases List.mem_cons.mp ((h x).mp List.mem_cons_self) with a | a
      · exact a
      · rcases List.mem_cons.mp ((h y).mpr List.mem_cons_self) with b | b
        · exact b.symm
        · have := m1 x a
          have := l1 y b
          omega
    subst e
    rw [sorted_ext l2 m2 (fun z => ?_)]
    constructor
    · intro hz
      rcases List.mem_cons.mp ((h z).mp (List.mem_cons_of_mem _ hz)) with a | a
      · have := l1 z hz
        omega
      · exact a
    · intro hz
      rcases List.mem_cons.mp ((h z).mpr (List.mem_cons_of_mem _ hz)) with a | a
      · have := m1 z hz
        omega
      · exact a
theorem words_spec {A : Nat → Int} {n : Nat} (hinj : ∀ t u : Nat, t < n → u < n → s_wide 4 (a_word A t) = s_wide 4 (a_word A u) → a_word A t = a_word A u) : ∀ k, k ≤ n → (a_words A k).Pairwise (fun x y => s_wide 4 x < s_wide 4 y) ∧ ∀ x, x ∈ a_words A k ↔ ∃ t : Nat, t < k ∧ a_word A t = x := by
  intro k
  induction k with
  | zero => intro _; exact ⟨List.Pairwise.nil, fun x => ⟨fun h => by simp [a_words, upto_0] at h, fun ⟨t, ht, _⟩ => absurd ht (Nat.not_lt_zero t)⟩⟩
  | succ k ih =>
    intro hk
    obtain ⟨p1, p2⟩ := ih (by omega)
    have e : a_words A (k + 1) = a_ins (a_word A k) (a_words A k) := rfl
    rw [e]
    generalize hl : a_words A k = l at p1 p2
    generalize hw : a_word A k = w
    have hmem : ∀ x, x ∈ l → s_wide 4 x = s_wide 4 w → x = w := by
      intro x hx ex
      obtain ⟨t, ht, et⟩ := (p2 x).mp hx
      rw [← et, ← hw] at ex ⊢
      exact hinj t k (by omega) (by omega) ex
    have hset : ∀ x, (∃ t : Nat, t < k + 1 ∧ a_word A t = x) ↔ (x = w ∨ x ∈ l) := by
      intro x
      rw [p2 x]
      constructor
      · rintro ⟨t, ht, et⟩
        by_cases q : t = k
        · subst q; exact Or.inl (et.symm.trans hw)
        · exact Or.inr ⟨t, by omega, et⟩
      · rintro (rfl | ⟨t, ht, et⟩)
        · exact ⟨k, by omega, hw⟩
        · exact ⟨t, by omega, et⟩
    unfold a_ins
    by_cases q : l[a_pos w l]? = some w
    · rw [if_pos q]
      refine ⟨p1, fun x => ?_⟩
      rw [hset]
      exact ⟨Or.inr, fun h => h.elim (fun z => by rw [z]; exact List.mem_of_getElem? q) id⟩
    · rw [if_neg q]
      have spl : l = l.take (a_pos w l) ++ l.drop (a_pos w l) := (List.take_append_drop _ _).symm
      have hlo : ∀ x ∈ l.take (a_pos w l), s_wide 4 x < s_wide 4 w := by
        intro x hx
        obtain ⟨i, hi⟩ := List.getElem?_of_mem hx
        have hil := (List.getElem?_eq_some_iff.mp hi).1
        rw [List.length_take] at hil
        obtain ⟨y, y1, y2⟩ := a_pos_lt w l i (by omega)
        rw [List.getElem?_take_of_lt (by omega), y1] at hi
        cases hi
        exact y2
      have hhi : ∀ x ∈ l.drop (a_pos w l), s_wide 4 w < s_wide 4 x := by
        intro x hx
        have hx0 := List.mem_of_mem_drop hx
        have hne : x ≠ w := by
          rintro rfl
          obtain ⟨i, hi⟩ := List.getElem?_of_mem hx
          rw [List.getElem?_drop] at hi
          by_cases z : i = 0
          · subst z; exact q hi
          · obtain ⟨y, hy⟩ := dc_get (l := l) (i := a_pos x l) (by have := (List.getElem?_eq_some_iff.mp hi).1; omega)
            have h1 := a_pos_at x l y hy
            have h2 := List.pairwise_iff_getElem.mp p1 (a_pos x l) (a_pos x l + i) (List.getElem?_eq_some_iff.mp hy).1 (List.getElem?_eq_some_iff.mp hi).1 (by omega)
            rw [(List.getElem?_eq_some_iff.mp hy).2, (List.getElem?_eq_some_iff.mp hi).2] at h2
            omega
        obtain ⟨i, hi⟩ := List.getElem?_of_mem hx
        rw [List.getElem?_drop] at hi
        obtain ⟨y, hy⟩ := dc_get (l := l) (i := a_pos w l) (by have := (List.getElem?_eq_some_iff.mp hi).1; omega)
        have h1 := a_pos_at w l y hy
        have h3 : s_wide 4 w ≤ s_wide 4 x := by
          by_cases z : i = 0
          · subst z
            rw [Nat.add_zero, hy] at hi
            cases hi
            exact h1
          · have h2 := List.pairwise_iff_getElem.mp p1 (a_pos w l) (a_pos w l + i) (List.getElem?_eq_some_iff.mp hy).1 (List.getElem?_eq_some_iff.mp hi).1 (by omega)
            rw [(List.getElem?_eq_some_iff.mp hy).2, (List.getElem?_eq_some_iff.mp hi).2] at h2
            omega
        have : s_wide 4 x ≠ s_wide 4 w := fun z => hne (hmem x hx0 z)
        omega
      have p1' := p1
      rw [spl] at p1'
      obtain ⟨pa, pb, pc⟩ := List.pairwise_append.mp p1'
      refine ⟨List.pairwise_append.mpr ⟨pa, List.pairwise_cons.mpr ⟨hhi, pb⟩, fun x hx y hy => ?_⟩, fun x => ?_⟩
      · rcases List.mem_cons.mp hy with rfl | hy
        · exact hlo x hx
        · have := hlo x hx
          have := hhi y hy
          omega
      · rw [hset, List.mem_append, List.mem_cons]
        conv => rhs; rw [spl]
        rw [List.mem_append]
        constructor
        · rintro (z | z | z)
          · exact Or.inr (Or.inl z)
          · exact Or.inl z
          · exact Or.inr (Or.inr z)
        · rintro (z | z | z)
          · exact Or.inr (Or.inl z)
          · exact Or.inl z
          · exact Or.inr (Or.inr z)
/-! what is told of one word -/
def ix_one (Ds : List dc) (κ : Int) (k : Nat) (q : qT) : qT := if 0 < ix_n (da_D Ds (k / 10)) (k % 10) κ (dc_len (da_D Ds (k / 10)) (k % 10)) then ix_see ((k / 10 : Nat) : Int) ((da_D Ds (k / 10)).2.2.getD (k % 10) 0) (ix_n (da_D Ds (k / 10)) (k % 10) κ (dc_len (da_D Ds (k / 10)) (k % 10))) q else q
theorem upto_ap {α : Type} (f : Nat → (Int → α) → Int → α) (g : Nat → α → α) (κ : Int) (hfg : ∀ k Q, f k Q κ = g k (Q κ)) (Q : Int → α) (n : Nat) : upto n f Q κ = upto n g (Q κ) := by
  induction n with
  | zero => rfl
  | succ n ih => rw [upto_s, upto_s, hfg, ih]
section
variable {A : Nat → Int} {Ds : List dc} {g : Nat → Nat → Nat} {i v p j t i' v' : Nat} {D D' : dc} {s : List Int}
theorem rl_ok.ixR (h : rl_ok A Ds g) (κ : Int) : ix_R Ds κ = upto 40 (fun k q => if isV Ds k then ix_one Ds κ k q else q) (0, 0, -1, 0) := by
  have e := h.flat (fun i v q => if 0 < ix_n (da_D Ds i) v κ (dc_len (da_D Ds i) v) then ix_see (i : Int) ((da_D Ds i).2.2.getD v 0) (ix_n (da_D Ds i) v κ (dc_len (da_D Ds i) v)) q else q) ((0, 0, -1, 0) : qT)
  refine Eq.trans ?_ e
  unfold ix_R
  refine upto_ap _ _ κ (fun i Q => ?_) _ _
  refine upto_ap _ _ κ (fun v Q => ?_) _ _
  unfold ix_st
  split <;> rfl
theorem rl_ok.times (h : rl_ok A Ds g) {k : Nat} (hk : isV Ds k) (hs : ∀ c ∈ s, 97 ≤ c ∧ c ≤ 122) (hl : 1 ≤ s.length ∧ s.length ≤ 4) : a_times A (k / 10 : Nat) (k % 10 : Nat) (s_code s) = ix_n (da_D Ds (k / 10)) (k % 10) (s_wide 4 (s_code s)) (dc_len (da_D Ds (k / 10)) (k % 10)) := by
  have hD := h.D0 hk.1
  unfold a_times ix_n
  rw [(h.len hD hk.2).1, Int.toNat_natCast]
  refine upto_cg _ (fun p n hp => ?_)
  have e1 := h.weq hD hk.2 hp hs hl
  obtain ⟨w1, w2, w3, w4⟩ := h.wd hD hk.2 hp
  have e2 : (ix_k (da_D Ds (k / 10)) (k % 10) p = s_wide 4 (s_code s)) = (dc_w (da_D Ds (k / 10)) (k % 10) p = s) := by
    rw [eq_iff_iff]
    exact ⟨fun z => s_wide_inj w2 hs ⟨w3, w4⟩ hl z, fun z => by unfold ix_k; rw [z]⟩
  simp only [e1, e2]
def ofR (p q : qT) : Prop := (p.1 = q.1 ∧ p.2.1 = q.2.1 ∧ p.2.2.2 = q.2.2.2) ∧ (0 ≤ q.1 ∧ rI q.2.1 ∧ 0 ≤ q.2.2.2) ∧ (q.1 = 0 → q.2.2.1 = -1 ∧ p.2.2.1 = 1000000) ∧ (0 < q.1 → p.2.2.1 = q.2.2.1 ∧ 0 ≤ q.2.2.1)
theorem rl_ok.ofW (h : rl_ok A Ds g) (hdt : rl_dt A Ds) (hs : ∀ c ∈ s, 97 ≤ c ∧ c ≤ 122) (hl : 1 ≤ s.length ∧ s.length ≤ 4) : ofR (a_ofW A (s_code s) 40) (ix_R Ds (s_wide 4 (s_code s))) := by
  rw [h.ixR]
  unfold a_ofW
  have key : ∀ n, n ≤ 40 → ofR (upto n (fun i p => (p.1 + (if a_nOf A (s_code s) i ≤ 0 then 0 else 1), s_or p.2.1 (if a_nOf A (s_code s) i ≤ 0 then 0 else s_bit (i / 10 : Nat)), if a_nOf A (s_code s) i ≤ 0 then p.2.2.1 else min p.2.2.1 (A (6 + i)), max p.2.2.2 (a_nOf A (s_code s) i))) (0, 0, 1000000, 0)) (upto n (fun k q => if isV Ds k then ix_one Ds (s_wide 4 (s_code s)) k q else q) (0, 0, -1, 0)) := by
    intro n
    induction n with
    | zero => intro _; exact ⟨⟨rfl, rfl, rfl⟩, ⟨Int.le_refl _, (⟨by decide, by decide⟩ : rI 0), Int.le_refl _⟩, fun _ => ⟨rfl, rfl⟩, fun z => absurd z (Int.lt_irrefl 0)⟩
    | succ n ih =>
      intro hn
      rw [upto_s, upto_s]
      have ih := ih (by omega)
      generalize upto n (fun i (p : qT) => (p.1 + (if a_nOf A (s_code s) i ≤ 0 then 0 else 1), s_or p.2.1 (if a_nOf A (s_code s) i ≤ 0 then 0 else s_bit (i / 10 : Nat)), if a_nOf A (s_code s) i ≤ 0 then p.2.2.1 else min p.2.2.1 (A (6 + i)), max p.2.2.2 (a_nOf A (s_code s) i))) (0, 0, 1000000, 0) = P at ih ⊢
      generalize upto n (fun k (q : qT) => if isV Ds k then ix_one Ds (s_wide 4 (s_code s)) k q else q) (0, 0, -1, 0) = Q at ih ⊢
      obtain ⟨⟨a1, a2, a3⟩, ⟨b1, b2, b3⟩, c1, d1⟩ := ih
      by_cases hv : isV Ds n
      · rw [if_pos hv]
        have e0 : a_nOf A (s_code s) n = ix_n (da_D Ds (n / 10)) (n % 10) (s_wide 4 (s_code s)) (dc_len (da_D Ds (n / 10)) (n % 10)) := by
          unfold a_nOf
          rw [h.isVer, decide_eq_true hv, if_pos rfl, h.times hv hs hl]
        obtain ⟨n1, n2⟩ := ix_n_r (da_D Ds (n / 10)) (n % 10) (s_wide 4 (s_code s)) (dc_len (da_D Ds (n / 10)) (n % 10))
        obtain ⟨t1, t2⟩ := h.date hdt hv
        unfold ix_one
        rw [e0, t1]
        have hD := h.D0 hv.1
        have hok := (h.dat hD).2.2.2.2.2.2.2.2
        have ht : 0 ≤ (da_D Ds (n / 10)).2.2.getD (n % 10) 0 ∧ (da_D Ds (n / 10)).2.2.getD (n % 10) 0 ≤ 1000 := by
          obtain ⟨x, hx⟩ := dc_get t2
          rw [dc_getD hx]
          exact hok.2.2.2.2.2 x (List.mem_of_getElem? hx)
        generalize ix_n (da_D Ds (n / 10)) (n % 10) (s_wide 4 (s_code s)) (dc_len (da_D Ds (n / 10)) (n % 10)) = N at n1 ⊢
        generalize (da_D Ds (n / 10)).2.2.getD (n % 10) 0 = T at ht ⊢
        by_cases z : 0 < N
        · have z' : ¬ N ≤ 0 := by omega
          rw [if_pos z]
          simp only [z', if_false]
          unfold ix_see
          refine ⟨⟨by show _ = Q.1 + 1; rw [a1], by show s_or P.2.1 _ = s_or Q.2.1 _; rw [a2], by show max P.2.2.2 N = max Q.2.2.2 N; rw [a3]⟩, ⟨by show 0 ≤ Q.1 + 1; omega, rI_or _ _, by show 0 ≤ max Q.2.2.2 N; omega⟩, fun y => ?_, fun y => ?_⟩
          · have y : Q.1 + 1 = 0 := y
            omega
          · show min P.2.2.1 T = (if Q.2.2.1 = -1 then T else min Q.2.2.1 T) ∧ 0 ≤ (if Q.2.2.1 = -1 then T else min Q.2.2.1 T)
            by_cases w : Q.1 = 0
            · obtain ⟨c2, c3⟩ := c1 w
              rw [if_pos c2, c3]
              omega
            · obtain ⟨d2, d3⟩ := d1 (by omega)
              rw [if_neg (by omega), d2]
              omega
        · have z' : N ≤ 0 := by omega
          rw [if_neg z]
          simp only [z', if_true]
          exact ⟨⟨by show P.1 + 0 = Q.1; omega, by show s_or P.2.1 0 = Q.2.1; rw [a2]; exact s_or_0 b2, by show max P.2.2.2 N = Q.2.2.2; omega⟩, ⟨b1, b2, b3⟩, c1, d1⟩
      · rw [if_neg hv]
        have e0 : a_nOf A (s_code s) n = 0 := by
          unfold a_nOf
          rw [h.isVer, decide_eq_false hv]
          rfl
        rw [e0]
        exact ⟨⟨by show P.1 + 0 = Q.1; omega, by show s_or P.2.1 0 = Q.2.1; rw [a2]; exact s_or_0 b2, by show max P.2.2.2 0 = Q.2.2.2; omega⟩, ⟨b1, b2, b3⟩, c1, d1⟩
  exact key 40 (Nat.le_refl _)
theorem ixR_pos {Ds : List dc} {κ : Int} : ∀ n, (0 ≤ (upto n (fun k q => if isV Ds k then ix_one Ds κ k q else q) ((0, 0, -1, 0) : qT)).1) ∧ (0 < (upto n (fun k q => if isV Ds k then ix_one Ds κ k q else q) ((0, 0, -1, 0) : qT)).1 ↔ ∃ k, k < n ∧ isV Ds k ∧ 0 < ix_n (da_D Ds (k / 10)) (k % 10) κ (dc_len (da_D Ds (k / 10)) (k % 10))) := by
  intro n
  induction n with
  | zero => exact ⟨Int.le_refl _, fun z => absurd z (Int.lt_irrefl 0), fun ⟨k, hk, _⟩ => absurd hk (Nat.not_lt_zero k)⟩
  | succ n ih =>
    rw [upto_s]
    generalize upto n (fun k q => if isV Ds k then ix_one Ds κ k q else q) ((0, 0, -1, 0) : qT) = Q at ih ⊢
    obtain ⟨h0, h1⟩ := ih
    by_cases c : isV Ds n ∧ 0 < ix_n (da_D Ds (n / 10)) (n % 10) κ (dc_len (da_D Ds (n / 10)) (n % 10))
    · rw [if_pos c.1]
      unfold ix_one
      rw [if_pos c.2]
      refine ⟨by show 0 ≤ Q.1 + 1; omega, fun _ => ⟨n, by omega, c.1, c.2⟩, fun _ => by show 0 < Q.1 + 1; omega⟩
    · have e : (if isV Ds n then ix_one Ds κ n Q else Q) = Q := by
        by_cases a : isV Ds n
        · rw [if_pos a]
          unfold ix_one
          rw [if_neg (fun z => c ⟨a, z⟩)]
        · rw [if_neg a]
      rw [e]
      refine ⟨h0, fun z => ?_, fun ⟨k, hk, z⟩ => ?_⟩
      · obtain ⟨k, hk, y⟩ := h1.mp z
        exact ⟨k, by omega, y⟩
      · refine h1.mpr ⟨k, ?_, z⟩
        by_cases y : k = n
        · subst y; exact absurd z c
        · omega
theorem ix_n_pos {D : dc} {v : Nat} {κ : Int} : ∀ p, 0 < ix_n D v κ p ↔ ∃ q, q < p ∧ ix_k D v q = κ := by
  intro p
  induction p with
  | zero => exact ⟨fun z => absurd z (Int.lt_irrefl 0), fun ⟨k, hk, _⟩ => absurd hk (Nat.not_lt_zero k)⟩
  | succ p ih =>
    have e : ix_n D v κ (p + 1) = ix_n D v κ p + (if ix_k D v p = κ then 1 else 0) := rfl
    have r := (ix_n_r D v κ p).1
    rw [e]
    by_cases c : ix_k D v p = κ
    · rw [if_pos c]
      exact ⟨fun _ => ⟨p, by omega, c⟩, fun _ => by omega⟩
    · rw [if_neg c, Int.add_zero, ih]
      exact ⟨fun ⟨q, h1, h2⟩ => ⟨q, by omega, h2⟩, fun ⟨q, h1, h2⟩ => ⟨q, by
        by_cases y : q = p
        · subst y; exact absurd h2 c
        · omega, h2⟩⟩
theorem rl_ok.key (h : rl_ok A Ds g) (κ : Int) : 0 < (ix_R Ds κ).1 ↔ ∃ t : Nat, (t : Int) < A 5 ∧ s_wide 4 (a_word A t) = κ := by
  rw [h.ixR, (ixR_pos 40).2]
  constructor
  · rintro ⟨k, hk, hv, hn⟩
    obtain ⟨q, hq, e⟩ := (ix_n_pos _).mp hn
    have hD := h.D0 hv.1
    obtain ⟨j, hj⟩ := dc_get (l := dc_row (da_D Ds (k / 10)) (k % 10)) (i := q) hq
    obtain ⟨e1, e2, e3⟩ := h.tokAt hD (h.r0 hD hv.2) hj
    obtain ⟨s, hs⟩ := dc_get e2
    obtain ⟨f1, f2, f3, -⟩ := h.tok hD hs
    refine ⟨g (k / 10) j, f3, ?_⟩
    rw [f1, ← e]
    unfold ix_k
    rw [dc_w_eq (h.r0 hD hv.2) hj hs]
  · rintro ⟨t, ht, e⟩
    obtain ⟨i, D, j, hi, hj, rfl⟩ := h.1.2.2 t ht
    obtain ⟨w, hw, hm⟩ := h.somewhere hi hj
    obtain ⟨q, hq⟩ := List.getElem?_of_mem hm
    obtain ⟨s, hs⟩ := dc_get hj
    obtain ⟨f1, f2, f3, -⟩ := h.tok hi hs
    obtain ⟨⟨g1, g2⟩, g3, g4, g5, g6, g7, g8, g9, g10⟩ := h.dat hi
    have e1 : (10 * i + w) / 10 = i := by omega
    have e2 : (10 * i + w) % 10 = w := by omega
    refine ⟨10 * i + w, by omega, ?_, ?_⟩
    · show (10 * i + w) / 10 < Ds.length ∧ (10 * i + w) % 10 < (da_D Ds ((10 * i + w) / 10)).1.length
      rw [e1, e2, g9]
      exact ⟨g3, hw⟩
    · rw [e1, e2, g9]
      refine (ix_n_pos _).mpr ⟨q, (List.getElem?_eq_some_iff.mp hq).1, ?_⟩
      unfold ix_k
      rw [dc_w_eq (h.r0 hi hw) hq hs, ← f1, e]
theorem rl_ok.winj (h : rl_ok A Ds g) {t u : Nat} (ht : (t : Int) < A 5) (hu : (u : Int) < A 5) (e : s_wide 4 (a_word A t) = s_wide 4 (a_word A u)) : a_word A t = a_word A u := by
  obtain ⟨i, D, j, hi, hj, rfl⟩ := h.1.2.2 t ht
  obtain ⟨i', D', j', hi', hj', rfl⟩ := h.1.2.2 u hu
  obtain ⟨s, hs⟩ := dc_get hj
  obtain ⟨s', hs'⟩ := dc_get hj'
  obtain ⟨f1, f2, f3, f4, f5⟩ := h.tok hi hs
  obtain ⟨f1', f2', f3', f4', f5'⟩ := h.tok hi' hs'
  rw [f1, f1'] at e ⊢
  rw [s_wide_inj f4 f4' f5 f5' e]
theorem rl_ok.wspec (h : rl_ok A Ds g) : (a_words A (A 5).toNat).Pairwise (fun x y => s_wide 4 x < s_wide 4 y) ∧ ∀ x, x ∈ a_words A (A 5).toNat ↔ ∃ t : Nat, t < (A 5).toNat ∧ a_word A t = x :=
  words_spec (n := (A 5).toNat) (fun t u ht hu e => h.winj (by omega) (by omega) e) _ (Nat.le_refl _)
/-- the twin's words are the index's keys, in the same order -/
theorem rl_ok.words (h : rl_ok A Ds g) {KS : List Int} (hs : KS.Pairwise (· < ·)) (hm : ∀ κ, κ ∈ KS ↔ 0 < (ix_R Ds κ).1) : (a_words A (A 5).toNat).map (s_wide 4) = KS := by
  obtain ⟨w1, w2⟩ := h.wspec
  refine sorted_ext (List.pairwise_map.mpr w1) hs (fun κ => ?_)
  rw [hm, h.key, List.mem_map]
  constructor
  · rintro ⟨x, hx, e⟩
    obtain ⟨t, ht, et⟩ := (w2 x).mp hx
    exact ⟨t, by omega, by rw [et]; exact e⟩
  · rintro ⟨t, ht, e⟩
    exact ⟨a_word A t, (w2 _).mpr ⟨t, by omega, rfl⟩, e⟩
theorem rl_ok.wordAtK (h : rl_ok A Ds g) {KS : List Int} (hs : KS.Pairwise (· < ·)) (hm : ∀ κ, κ ∈ KS ↔ 0 < (ix_R Ds κ).1) {k : Nat} {κ : Int} (hk : KS[k]? = some κ) {s : List Int} (h1 : ∀ c ∈ s, 97 ≤ c ∧ c ≤ 122) (h2 : 1 ≤ s.length ∧ s.length ≤ 4) (h3 : κ = s_wide 4 (s_code s)) : (a_words A (A 5).toNat)[k]? = some (s_code s) := by
  have e := h.words hs hm
  rw [← e, List.getElem?_map] at hk
  obtain ⟨w, hw⟩ : ∃ w, (a_words A (A 5).toNat)[k]? = some w := by
    cases q : (a_words A (A 5).toNat)[k]? with
    | none => rw [q] at hk; cases hk
    | some w => exact ⟨w, rfl⟩
  rw [hw] at hk ⊢
  have hk : s_wide 4 w = κ := Option.some.inj hk
  obtain ⟨t, ht, et⟩ := (h.wspec.2 w).mp (List.mem_of_getElem? hw)
  obtain ⟨i, D, j, hi, hj, rfl⟩ := h.1.2.2 t (by omega)
  obtain ⟨s', hs'⟩ := dc_get hj
  obtain ⟨f1, f2, f3, f4, f5⟩ := h.tok hi hs'
  rw [f1] at et
  rw [← et] at hk ⊢
  rw [s_wide_inj f4 h1 f5 h2 (hk.trans h3)]
end
