set_option maxRecDepth 100000
/-! the plain law: sums; the archive's counts -/
def sm (n : Nat) (f : Nat → Int) : Int := upto n (fun k a => a + f k) 0
theorem sm_0 (f : Nat → Int) : sm 0 f = 0 := rfl
theorem sm_s (n : Nat) (f : Nat → Int) : sm (n + 1) f = sm n f + f n := rfl
theorem sm_cg {f g : Nat → Int} : ∀ n : Nat, (∀ k, k < n → f k = g k) → sm n f = sm n g := fun n h => upto_cg n (fun k a hk => by rw [h k hk])
theorem sm_z {f : Nat → Int} (n : Nat) (h : ∀ k, k < n → f k = 0) : sm n f = 0 := by
  induction n with
  | zero => rfl
  | succ n ih => rw [sm_s, ih (fun k hk => h k (by omega)), h n (by omega)]; rfl
theorem sm_add (f g : Nat → Int) (n : Nat) : sm n (fun k => f k + g k) = sm n f + sm n g := by
  induction n with
  | zero => rfl
  | succ n ih => rw [sm_s, sm_s, sm_s, ih]; omega
theorem sm_sub (f g : Nat → Int) (n : Nat) : sm n (fun k => f k - g k) = sm n f - sm n g := by
  induction n with
  | zero => rfl
  | succ n ih => rw [sm_s, sm_s, sm_s, ih]; omega
theorem sm_c (c : Int) (n : Nat) : sm n (fun _ => c) = n * c := by
  induction n with
  | zero => simp [sm_0]
  | succ n ih => rw [sm_s, ih, Int.natCast_succ, Int.add_mul, Int.one_mul]
theorem sm_swap (f : Nat → Nat → Int) (n m : Nat) : sm n (fun i => sm m (fun j => f i j)) = sm m (fun j => sm n (fun i => f i j)) := by
  induction n with
  | zero => exact (sm_z m (fun k _ => rfl)).symm
  | succ n ih =>
    rw [sm_s, ih, ← sm_add]
    rfl
theorem sm_one {f : Nat → Int} {n j : Nat} (hj : j < n) (h : ∀ k, k < n → k ≠ j → f k = 0) : sm n f = f j := by
  induction n with
  | zero => omega
  | succ n ih =>
    rw [sm_s]
    by_cases e : j = n
    · subst e
      rw [sm_z _ (fun k hk => h k (by omega) (by omega))]
      omega
    · rw [ih (by omega) (fun k hk => h k (by omega)), h n (by omega) (fun e' => e e'.symm)]
      omega
theorem sm_nn {f : Nat → Int} (n : Nat) (h : ∀ k, k < n → 0 ≤ f k) : 0 ≤ sm n f := by
  induction n with
  | zero => exact Int.le_refl 0
  | succ n ih =>
    rw [sm_s]
    have := ih (fun k hk => h k (by omega))
    have := h n (by omega)
    omega
theorem sm_le {f g : Nat → Int} (n : Nat) (h : ∀ k, k < n → f k ≤ g k) : sm n f ≤ sm n g := by
  induction n with
  | zero => exact Int.le_refl 0
  | succ n ih =>
    rw [sm_s, sm_s]
    have := ih (fun k hk => h k (by omega))
    have := h n (by omega)
    omega
theorem upto_acc (f : Nat → Int) (n : Nat) (x : Int) : upto n (fun k a => a + f k) x = x + sm n f := by
  induction n with
  | zero => show x = x + 0; omega
  | succ n ih =>
    show upto n (fun k a => a + f k) x + f n = x + (sm n f + f n)
    rw [ih]; omega
theorem upto_cond (P : Nat → Prop) [∀ k, Decidable (P k)] (f : Nat → Int) (n : Nat) : upto n (fun k a => if P k then a + f k else a) 0 = sm n (fun k => if P k then f k else 0) := by
  refine upto_cg n (fun k a _ => ?_)
  show (if P k then a + f k else a) = a + (if P k then f k else 0)
  split
  · rfl
  · omega
theorem upto_nest (f : Nat → Nat → Int) (m : Nat → Nat) (n : Nat) : upto n (fun i a => upto (m i) (fun v a => a + f i v) a) 0 = sm n (fun i => sm (m i) (f i)) := upto_cg n (fun i a _ => upto_acc (f i) (m i) a)
theorem upto_cgQ {α : Type} {f g : Nat → α → α} {x : α} {Q : α → Prop} (h0 : Q x) (n : Nat) (h : ∀ k a, k < n → Q a → f k a = g k a ∧ Q (f k a)) : upto n f x = upto n g x ∧ Q (upto n f x) := by
  induction n with
  | zero => exact ⟨rfl, h0⟩
  | succ n ih =>
    obtain ⟨e, q⟩ := ih (fun k a hk => h k a (by omega))
    obtain ⟨e2, q2⟩ := h n _ (by omega) q
    exact ⟨by rw [upto_s, upto_s, e2, e], q2⟩
/-- what is gone through by one's own numbers -/
theorem upto_enum {α : Type} {P : Nat → Prop} [∀ k, Decidable (P k)] {F : Nat → α → α} {x : α} (f : Nat → Nat) : ∀ (n m : Nat), (∀ j k, j < k → k < m → f j < f k) → (∀ t, t < n → (P t ↔ ∃ j, j < m ∧ f j = t)) → (∀ j, j < m → f j < n) → upto n (fun t a => if P t then F t a else a) x = upto m (fun j a => F (f j) a) x := by
  intro n
  induction n with
  | zero =>
    intro m _ _ h3
    cases m with
    | zero => rfl
    | succ m => exact absurd (h3 0 (by omega)) (by omega)
  | succ n ih =>
    intro m h1 h2 h3
    rw [upto_s]
    by_cases hP : P n
    · rw [if_pos hP]
      obtain ⟨j, hj, ej⟩ := (h2 n (by omega)).mp hP
      have hjm : j + 1 = m := by
        rcases Nat.lt_or_ge (j + 1) m with q | q
        · have a1 := h1 j (j + 1) (by omega) q
          have a2 := h3 (j + 1) q
          omega
        · omega
      subst hjm
      rw [upto_s, ej]
      congr 1
      refine ih j (fun a b hab hb => h1 a b hab (by omega)) (fun t ht => ?_) (fun a ha => ?_)
      · rw [h2 t (by omega)]
        constructor
        · rintro ⟨a, ha, ea⟩
          refine ⟨a, ?_, ea⟩
          rcases Nat.lt_or_ge a j with q | q
          · exact q
          · have : a = j := by omega
            subst this
            omega
        · rintro ⟨a, ha, ea⟩
          exact ⟨a, by omega, ea⟩
      · have := h1 a j ha (by omega)
        omega
    · rw [if_neg hP]
      refine ih m h1 (fun t ht => h2 t (by omega)) (fun a ha => ?_)
      have := h3 a ha
      have : f a ≠ n := fun e => hP ((h2 n (by omega)).mpr ⟨a, ha, e⟩)
      omega
/-- a sum, split by classes -/
theorem sm_split (c : Nat → Nat) (f : Nat → Int) (m : Nat) : ∀ n : Nat, (∀ t, t < n → c t < m) → sm n f = sm m (fun i => sm n (fun t => if c t = i then f t else 0)) := by
  intro n
  induction n with
  | zero => intro _; exact (sm_z m (fun k _ => rfl)).symm
  | succ n ih =>
    intro h
    rw [sm_s, ih (fun t ht => h t (by omega))]
    have e : sm m (fun i => sm (n + 1) (fun t => if c t = i then f t else 0)) = sm m (fun i => sm n (fun t => if c t = i then f t else 0) + (if c n = i then f n else 0)) := rfl
    rw [e, sm_add, sm_one (f := fun i => if c n = i then f n else 0) (h n (by omega)) (fun k _ hk => if_neg (fun q => hk q.symm)), if_pos rfl]
section
variable {A : Nat → Int} {Ds : List dc} {g : Nat → Nat → Nat} {i v p j : Nat} {D : dc} {row : List Nat} {s : List Int}
theorem rl_ok.n5 (h : rl_ok A Ds g) : 0 ≤ A 5 ∧ A 5 ≤ 319 := h.2.1.1.1
theorem rl_ok.enum {α : Type} {F : Nat → α → α} {x : α} (h : rl_ok A Ds g) (hi : Ds[i]? = some D) : upto (A 5).toNat (fun t a => if a_whose A (t : Nat) = i then F t a else a) x = upto D.2.1.length (fun j a => F (g i j) a) x := by
  obtain ⟨n1, n2⟩ := h.n5
  refine upto_enum (P := fun t => a_whose A (t : Nat) = i) (g i) _ _ (h.1.2.1 i D hi).2.2 (fun t ht => ?_) (fun j hj => ?_)
  · constructor
    · intro ht2
      obtain ⟨i', D', j, hi', hj', rfl⟩ := h.1.2.2 t (by omega)
      obtain ⟨s, hs⟩ := dc_get hj'
      have e := (h.tok hi' hs).2.1
      have e2 : i' = i := by have : (i' : Int) = i := e.symm.trans ht2; omega
      subst e2
      rw [hi] at hi'
      cases hi'
      exact ⟨j, hj', rfl⟩
    · rintro ⟨j, hj, rfl⟩
      obtain ⟨s, hs⟩ := dc_get hj
      exact (h.tok hi hs).2.1
  · obtain ⟨s, hs⟩ := dc_get hj
    have := (h.tok hi hs).2.2.1
    omega
theorem rl_ok.sum (h : rl_ok A Ds g) (f : Nat → Int) : sm (A 5).toNat f = sm Ds.length (fun i => sm (da_D Ds i).2.1.length (fun j => f (g i j))) := by
  obtain ⟨n1, n2⟩ := h.n5
  have hb := h.2.1.ok
  rw [sm_split (fun t => (a_whose A (t : Nat)).toNat) f Ds.length (A 5).toNat (fun t ht => ?_)]
  · refine sm_cg _ (fun i hi => ?_)
    obtain ⟨D, hD⟩ := dc_get hi
    rw [(h.dat hD).2.2.2.2.2.2.2.1]
    have e := h.enum (F := fun t a => a + f t) (x := (0 : Int)) hD
    rw [upto_cond] at e
    refine Eq.trans (sm_cg _ (fun t ht => ?_)) e
    have hw := (hb.2.2.2.2.2 t (by omega) (by omega)).1
    have : ((a_whose A (t : Nat)).toNat = i) = (a_whose A (t : Nat) = i) := by
      rw [eq_iff_iff]; omega
    simp only [this]
  · obtain ⟨i', D', j, hi', hj', rfl⟩ := h.1.2.2 t (by omega)
    obtain ⟨s, hs⟩ := dc_get hj'
    have e := (h.tok hi' hs).2.1
    have := (List.getElem?_eq_some_iff.mp hi').1
    show (a_whose A ((g i' j : Nat) : Int)).toNat < _
    rw [e]; omega
theorem rl_ok.D0 (h : rl_ok A Ds g) (hi : i < Ds.length) : Ds[i]? = some (da_D Ds i) := by
  obtain ⟨D, hD⟩ := dc_get hi
  rw [(h.dat hD).2.2.2.2.2.2.2.1]
  exact hD
theorem rl_ok.A0 (h : rl_ok A Ds g) : A 0 = Ds.length ∧ (A 0).toNat = Ds.length ∧ Ds.length ≤ 4 := by
  have := h.1.1
  have := h.2.1.2.1
  exact ⟨by omega, by omega, by omega⟩
theorem rl_ok.all (h : rl_ok A Ds g) : a_all A = da_sum Ds (fun _ _ => 1) := by
  unfold a_all da_sum
  rw [h.A0.2.1, upto_nest]
  refine sm_cg _ (fun i hi => ?_)
  rw [(h.dat (h.D0 hi)).2.2.2.2.1, sm_c]
  omega
theorem rl_ok.r0 (h : rl_ok A Ds g) (hi : Ds[i]? = some D) (hv : v < D.1.length) : D.1[v]? = some (dc_row D v) := by
  obtain ⟨row, hr⟩ := dc_get hv
  rw [(h.rw1 hi hr).2.2.2.1]
  exact hr
theorem rl_ok.len (h : rl_ok A Ds g) (hi : Ds[i]? = some D) (hv : v < D.1.length) : a_long A i v = dc_len D v ∧ dc_len D v ≤ 20 := by
  obtain ⟨r1, r2, r3, r4, r5, r6, r7⟩ := h.rw1 hi (h.r0 hi hv)
  exact ⟨by omega, by omega⟩
theorem rl_ok.sizes (h : rl_ok A Ds g) : a_sizes A = da_sum Ds (fun i v => dc_len (da_D Ds i) v) := by
  unfold a_sizes da_sum
  rw [h.A0.2.1, upto_nest, upto_nest]
  refine sm_cg _ (fun i hi => ?_)
  have hD := h.D0 hi
  rw [(h.dat hD).2.2.2.2.1]
  show sm ((da_D Ds i).1.length : Int).toNat _ = _
  rw [Int.toNat_natCast]
  exact sm_cg _ (fun v hv => (h.len hD hv).1)
theorem rl_ok.toks (h : rl_ok A Ds g) : A 5 = da_toks Ds := by
  have e := h.sum (fun _ => 1)
  rw [sm_c] at e
  have n1 := h.n5.1
  have e2 : A 5 = sm Ds.length (fun i => sm (da_D Ds i).2.1.length (fun _ => 1)) := by rw [← e]; omega
  rw [e2]
  show sm _ _ = sm Ds.length (fun i => (((da_D Ds i).2.1.length : Nat) : Int))
  refine sm_cg _ (fun i hi => ?_)
  rw [sm_c]; omega
theorem rl_ok.post (h : rl_ok A Ds g) : a_post A (A 5) = da_post Ds := by
  show sm (A 5).toNat (fun t => a_rows (a_where A (t : Nat))) = sm Ds.length (fun i => dc_post (da_D Ds i))
  rw [h.sum]
  refine sm_cg _ (fun i hi => ?_)
  have hD := h.D0 hi
  show _ = sm _ (fun j => s_rows (dc_set (da_D Ds i).1 j))
  refine sm_cg _ (fun j hj => ?_)
  rw [h.whereAt hD hj]
  rfl
theorem rl_ok.last (h : rl_ok A Ds g) (hi : Ds[i]? = some D) : a_long A i (a_many A i - 1) = dc_last D := by
  obtain ⟨⟨g1, g2⟩, g3, g4, g5, g6, g7, g8, g9, g10⟩ := h.dat hi
  unfold dc_last
  rw [← (h.len hi (v := D.1.length - 1) (by omega)).1, g6]
  congr 1
  omega
theorem rl_ok.longest (h : rl_ok A Ds g) : a_longest A = da_longest Ds := by
  unfold a_longest da_longest
  rw [h.A0.2.1]
  refine (upto_cgQ (Q := fun b : Int => b = -1 ∨ (0 ≤ b ∧ b < Ds.length)) (Or.inl rfl) Ds.length (fun k b hk hb => ?_)).1
  have hD := h.D0 hk
  by_cases e : b = -1
  · rw [if_pos e, if_pos e]
    exact ⟨rfl, Or.inr ⟨by omega, by omega⟩⟩
  · rw [if_neg e, if_neg e]
    have hb2 : 0 ≤ b ∧ b < Ds.length := hb.resolve_left e
    have hDb := h.D0 (i := b.toNat) (by omega)
    have eb : (b.toNat : Int) = b := by omega
    have e1 := h.last hD
    have e2 := h.last hDb
    rw [eb] at e2
    rw [e1, e2]
    have e3 : (((dc_last (da_D Ds k) : Nat) : Int) ≤ (dc_last (da_D Ds b.toNat) : Nat)) = (dc_last (da_D Ds k) ≤ dc_last (da_D Ds b.toNat)) := by rw [eq_iff_iff]; omega
    simp only [e3]
    refine ⟨trivial, ?_⟩
    split
    · exact Or.inr hb2
    · exact Or.inr ⟨by omega, by omega⟩
end
