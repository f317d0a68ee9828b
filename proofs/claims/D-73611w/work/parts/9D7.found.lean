set_option maxRecDepth 100000
/-! the plain law: what is found by questions -/
section
variable {A B : Nat → Int} {Ds : List dc} {g : Nat → Nat → Nat} {i v p j t k : Nat} {D : dc} {u : Int} {Q : List qQ} {q : qQ} {s : List Int}
theorem rl_ok.docs (h : rl_ok A Ds g) (hQ : qr B u Q) (hk : k < Q.length) (al : Bool) : q_docs A (q_T A B u) k al = dk_docs Ds (qph Ds Q k) al := by
  unfold q_docs dk_docs
  rw [h.A0.2.1]
  refine upto_cg _ (fun i s hi => ?_)
  have hD := h.D0 hi
  rw [h.T hQ hk hD, (h.dat hD).2.2.2.2.1]
theorem rl_ok.asV (h : rl_ok A Ds g) (hdt : rl_dt A Ds) (hi : Ds[i]? = some D) (x : Int) : q_asV A i x = dc_asOf D x := by
  obtain ⟨⟨g1, g2⟩, g3, g4, g5, g6, g7, g8, g9, g10⟩ := h.dat hi
  unfold q_asV dc_asOf
  rw [g6, Int.toNat_natCast]
  refine upto_cg _ (fun v a hv => ?_)
  obtain ⟨y, hy⟩ := dc_get (l := D.2.2) (i := v) (by rw [← g10.2.1]; exact hv)
  have e := hdt i D v y hi hy
  rw [show (6 + (10 * (i : Int) + (v : Int))).toNat = 6 + (10 * i + v) by omega, e, dc_getD hy]
theorem dc_asOf_rr (D : dc) (x : Int) : dc_asOf D x = -1 ∨ (0 ≤ dc_asOf D x ∧ dc_asOf D x < D.1.length) := by
  unfold dc_asOf
  refine upto_ind (Q := fun a => a = -1 ∨ (0 ≤ a ∧ a < (D.1.length : Int))) (Or.inl rfl) _ (fun k a hk ha => ?_)
  split
  · exact ha
  · exact Or.inr ⟨by omega, by omega⟩
theorem rl_ok.asOf (h : rl_ok A Ds g) (hdt : rl_dt A Ds) (hQ : qr B u Q) (hk : k < Q.length) (x : Int) : q_asOf A (q_T A B u) k x = dk_asOf Ds (qph Ds Q k) x := by
  unfold q_asOf dk_asOf
  rw [h.A0.2.1]
  refine upto_cg _ (fun i s hi => ?_)
  have hD := h.D0 hi
  obtain ⟨⟨g1, g2⟩, g3, g4, g5, g6, g7, g8, g9, g10⟩ := h.dat hD
  rw [h.asV hdt hD, h.T hQ hk hD]
  rcases dc_asOf_rr (da_D Ds i) x with e | ⟨e1, e2⟩
  · rw [e]; rfl
  · have e3 : (((dc_asOf (da_D Ds i) x).toNat : Nat) : Int) = dc_asOf (da_D Ds i) x := by omega
    have e4 := dk_set_has (φ := qph Ds Q k i) (k := (dc_asOf (da_D Ds i) x).toNat) (by omega) (da_D Ds i).1.length g8
    rw [e3, decide_eq_true (by omega)] at e4
    rw [e4, Bool.true_and]
theorem rl_ok.sumOnes (h : rl_ok A Ds g) (φ : Nat → Nat → Bool) : dk_sum Ds φ = sm Ds.length (fun i => s_ones (dk_set (φ i) (da_D Ds i).1.length)) := by
  unfold dk_sum da_sum
  rw [upto_nest]
  refine sm_cg _ (fun i hi => ?_)
  rw [dk_ones (h.dat (h.D0 hi)).2.2.2.2.2.2.1]
theorem rl_ok.qsum (h : rl_ok A Ds g) (hQ : qr B u Q) (hk : k < Q.length) : q_sum A (q_T A B u) k = dk_sum Ds (qph Ds Q k) := by
  rw [h.sumOnes]
  unfold q_sum
  rw [h.A0.2.1]
  refine sm_cg _ (fun i hi => ?_)
  rw [h.T hQ hk (h.D0 hi)]
theorem sm_0_iff {f : Nat → Int} : ∀ n : Nat, (∀ k, k < n → 0 ≤ f k) → (sm n f = 0 ↔ ∀ k, k < n → f k = 0) := by
  intro n h
  constructor
  · induction n with
    | zero => intro _ k hk; omega
    | succ n ih =>
      intro e k hk
      rw [sm_s] at e
      have a := sm_nn n (fun k hk => h k (by omega))
      have b := h n (by omega)
      by_cases q : k = n
      · subst q; omega
      · exact ih (fun k hk => h k (by omega)) (by omega) k (by omega)
  · intro z
    exact sm_z n z
theorem upto_and (f : Nat → Bool) (b : Bool) (n : Nat) : upto n (fun k a => a && f k) b = (b && (List.range n).all f) := by
  induction n with
  | zero => show b = _; simp
  | succ n ih =>
    rw [upto_s, ih, List.range_succ, List.all_append]
    simp [Bool.and_assoc]
theorem rl_ok.within (h : rl_ok A Ds g) (hQ : qr B u Q) {a b : Nat} (ha : a < Q.length) (hb : b < Q.length) : q_within A (q_T A B u) a b = dk_imp Ds (qph Ds Q a) (qph Ds Q b) := by
  unfold q_within dk_imp
  rw [h.A0.2.1, upto_and, Bool.true_and, Bool.eq_iff_iff, List.all_eq_true, decide_eq_true_eq]
  unfold dk_sum da_sum
  rw [upto_nest, sm_0_iff _ (fun i _ => sm_nn _ (fun v _ => by split <;> omega))]
  constructor
  · intro z i hi
    have hD := h.D0 hi
    obtain ⟨⟨g1, g2⟩, g3, g4, g5, g6, g7, g8, g9, g10⟩ := h.dat hD
    have := of_decide_eq_true (z i (List.mem_range.mpr hi))
    rw [h.T hQ ha hD, h.T hQ hb hD, andn_0 (dk_set_r _ _ g8)] at this
    refine sm_z _ (fun v hv => if_neg ?_)
    have hv10 : v < 10 := by omega
    have y := this v hv10
    rw [dk_set_has hv10 _ g8, dk_set_has hv10 _ g8, decide_eq_true hv] at y
    rw [Bool.true_and, Bool.true_and] at y
    show ¬ (qph Ds Q a i v && !qph Ds Q b i v) = true
    cases e1 : qph Ds Q a i v with
    | false => simp
    | true => rw [y e1]; simp
  · intro z i hi
    have hi := List.mem_range.mp hi
    have hD := h.D0 hi
    obtain ⟨⟨g1, g2⟩, g3, g4, g5, g6, g7, g8, g9, g10⟩ := h.dat hD
    refine decide_eq_true ?_
    rw [h.T hQ ha hD, h.T hQ hb hD, andn_0 (dk_set_r _ _ g8)]
    intro v hv hs
    rw [dk_set_has hv _ g8] at hs
    rw [dk_set_has hv _ g8]
    have hvl : v < (da_D Ds i).1.length := by
      cases e : decide (v < (da_D Ds i).1.length) with
      | false => rw [e] at hs; cases hs
      | true => exact of_decide_eq_true e
    rw [decide_eq_true hvl, Bool.true_and] at hs ⊢
    have := (sm_0_iff _ (fun v _ => by split <;> omega)).mp (z i hi) v hvl
    have this : (if (qph Ds Q a i v && !qph Ds Q b i v) = true then (1 : Int) else 0) = 0 := this
    rw [hs] at this
    cases e : qph Ds Q b i v with
    | true => rfl
    | false => rw [e] at this; simp at this
theorem rl_ok.qbest (h : rl_ok A Ds g) (hQ : qr B u Q) {L : List kE} (hL : ∀ k, k < Q.length → dk_phi L k = qph Ds Q k) : q_best A (q_T A B u) (q_n B u) = dk_best Ds L Q.length := by
  unfold q_best dk_best
  rw [hQ.1, Int.toNat_natCast]
  refine (upto_cgQ (Q := fun b : Int => b = -1 ∨ (0 ≤ b ∧ b < Q.length)) (Or.inl rfl) _ (fun k b hk hb => ?_)).1
  by_cases e : b = -1
  · rw [if_pos e, if_pos e]
    exact ⟨rfl, Or.inr ⟨by omega, by omega⟩⟩
  · have hb := hb.resolve_left e
    have eb : ((b.toNat : Nat) : Int) = b := by omega
    have e2 := h.qsum hQ (k := b.toNat) (by omega)
    rw [eb] at e2
    rw [if_neg e, if_neg e, h.qsum hQ hk, e2, hL k hk, hL b.toNat (by omega)]
    refine ⟨rfl, ?_⟩
    split
    · exact Or.inr hb
    · exact Or.inr ⟨by omega, by omega⟩
theorem rl_ok.pairs (h : rl_ok A Ds g) (hQ : qr B u Q) {L : List kE} (hL : ∀ k, k < Q.length → dk_phi L k = qph Ds Q k) : q_pairs A (q_T A B u) (q_n B u) = dk_same Ds L Q.length := by
  unfold q_pairs dk_same
  rw [hQ.1, Int.toNat_natCast, upto_nest, upto_nest]
  refine sm_cg _ (fun a ha => sm_cg _ (fun b hb => ?_))
  rw [h.within hQ ha (b := b) (by omega), h.within hQ (a := b) (by omega) ha]
  unfold dk_eqv
  rw [hL a ha, hL b (by omega), Bool.and_comm]
/-! ranks -/
def rkV (B : Nat → Int) (Z : Nat → Bool) (d : Nat) : Int := 2 * B d + (if Z d = true then 1 else 0)
def rkA (B : Nat → Int) (Z : Nat → Bool) (e d : Nat) : Bool := decide (rkV B Z d < rkV B Z e ∨ (rkV B Z e = rkV B Z d ∧ e < d))
theorem rkA_iff {B : Nat → Int} {Z : Nat → Bool} {e d : Nat} : rkA B Z e d = true ↔ (rkV B Z d < rkV B Z e ∨ (rkV B Z e = rkV B Z d ∧ e < d)) := by unfold rkA; rw [decide_eq_true_eq]
theorem rkA_cmp {B : Nat → Int} {Z : Nat → Bool} {i j : Nat} : (r_cmp B Z i j < 0 ↔ rkA B Z i j = true) ∧ (0 < r_cmp B Z i j ↔ rkA B Z j i = true) := by
  rw [rkA_iff, rkA_iff]
  unfold r_cmp rkV
  cases Z i <;> cases Z j <;> simp only [if_true, if_false, Bool.false_eq_true, Bool.true_eq_false] <;> constructor <;> constructor <;> intro h <;> (try split at h) <;> (try split) <;> omega
/-- how many stand ahead -/
def rkN (B : Nat → Int) (Z : Nat → Bool) (n d : Nat) : Int := sm n (fun e => if rkA B Z e d = true then 1 else 0)
theorem rkN_r (B : Nat → Int) (Z : Nat → Bool) (n d : Nat) : 0 ≤ rkN B Z n d := sm_nn n (fun k _ => by split <;> omega)
theorem rkN_lt {B : Nat → Int} {Z : Nat → Bool} {n i j : Nat} (hi : i < n) (h : rkA B Z i j = true) : rkN B Z n i < rkN B Z n j := by
  have hij := rkA_iff.mp h
  have e : rkN B Z n j = sm n (fun e => (if rkA B Z e i = true then 1 else 0) + ((if rkA B Z e j = true then 1 else 0) - (if rkA B Z e i = true then 1 else 0))) := sm_cg _ (fun k _ => by omega)
  have e2 := sm_add (fun e => if rkA B Z e i = true then (1 : Int) else 0) (fun e => (if rkA B Z e j = true then (1 : Int) else 0) - (if rkA B Z e i = true then 1 else 0)) n
  have mono : ∀ k, rkA B Z k i = true → rkA B Z k j = true := fun k hk => by
    have := rkA_iff.mp hk
    rw [rkA_iff]; omega
  have irr : ¬ rkA B Z i i = true := by rw [rkA_iff]; omega
  have e3 : sm n (fun e => if e = i then (1 : Int) else 0) ≤ sm n (fun e => (if rkA B Z e j = true then (1 : Int) else 0) - (if rkA B Z e i = true then 1 else 0)) := by
    refine sm_le n (fun k hk => ?_)
    by_cases q : k = i
    · subst q
      rw [if_pos rfl, if_pos h, if_neg irr]; omega
    · rw [if_neg q]
      by_cases z : rkA B Z k i = true
      · rw [if_pos z, if_pos (mono k z)]; omega
      · rw [if_neg z]; split <;> omega
  rw [sm_one (f := fun e => if e = i then (1 : Int) else 0) hi (fun k _ hk => if_neg hk), if_pos rfl] at e3
  have e4 : rkN B Z n j = rkN B Z n i + _ := e.trans e2
  omega
theorem rkN_iff {B : Nat → Int} {Z : Nat → Bool} {n i j : Nat} (hi : i < n) (hj : j < n) : rkA B Z i j = true ↔ rkN B Z n i < rkN B Z n j := by
  refine ⟨rkN_lt hi, fun h => ?_⟩
  by_cases e : i = j
  · subst e; omega
  · by_cases q : rkA B Z i j = true
    · exact q
    · have : rkA B Z j i = true := by
        have := mt rkA_iff.mpr q
        rw [rkA_iff]; omega
      have := rkN_lt hj this
      omega
theorem rkN_up {B : Nat → Int} {Z : Nat → Bool} {n i : Nat} (hi : i < n) : rkN B Z n i < n := by
  have h : rkN B Z n i ≤ sm n (fun e => 1 - (if e = i then (1 : Int) else 0)) := by
    refine sm_le n (fun k hk => ?_)
    by_cases q : k = i
    · subst q
      have irr : ¬ rkA B Z k k = true := by rw [rkA_iff]; omega
      rw [if_neg irr, if_pos rfl]; omega
    · rw [if_neg q]; split <;> omega
  rw [sm_sub, sm_c, sm_one (f := fun e => if e = i then (1 : Int) else 0) hi (fun k _ hk => if_neg hk), if_pos rfl] at h
  omega
/-- ranks as a table of four -/
def rkT (B : Nat → Int) (Z : Nat → Bool) (n : Nat) : Nat → Nat := pq_tab (if 0 < n then (rkN B Z n 0).toNat else 0) (if 1 < n then (rkN B Z n 1).toNat else 0) (if 2 < n then (rkN B Z n 2).toNat else 0) (if 3 < n then (rkN B Z n 3).toNat else 0)
theorem rkT_at {B : Nat → Int} {Z : Nat → Bool} {n i : Nat} (hn : n ≤ 4) (hi : i < n) : ((rkT B Z n i : Nat) : Int) = rkN B Z n i := by
  have r := rkN_r B Z n i
  unfold rkT pq_tab
  have : i = 0 ∨ i = 1 ∨ i = 2 ∨ i = 3 := by omega
  rcases this with rfl | rfl | rfl | rfl <;> simp only [if_true, if_false, Nat.one_ne_zero, show ¬ (2 = 0) from by decide, show ¬ (2 = 1) from by decide, show ¬ (3 = 0) from by decide, show ¬ (3 = 1) from by decide, show ¬ (3 = 2) from by decide] <;> rw [if_pos hi] <;> omega
theorem rkT_ok {B : Nat → Int} {Z : Nat → Bool} {n : Nat} (hn : n ≤ 4) (hB : ∀ i : Nat, i < n → 0 ≤ B i ∧ B i ≤ 10) : r_ok B Z (rkT B Z n) n := by
  refine ⟨hn, hB, fun i j hi hj => ?_⟩
  obtain ⟨c1, c2⟩ := rkA_cmp (B := B) (Z := Z) (i := i) (j := j)
  have a := rkT_at (B := B) (Z := Z) hn hi
  have b := rkT_at (B := B) (Z := Z) hn hj
  rw [c1, c2, rkN_iff hi hj, rkN_iff hj hi]
  omega
theorem rkT_good {B : Nat → Int} {Z : Nat → Bool} {n : Nat} (hn : n ≤ 4) : pq_good (rkT B Z n) n = true := by
  have lt4 : ∀ i, (if i < n then (rkN B Z n i).toNat else 0) < 4 := by
    intro i
    split
    · rename_i q
      have := rkN_up (B := B) (Z := Z) q
      omega
    · omega
  have := pq_all4 ⟨n, by omega⟩ ⟨_, lt4 0⟩ ⟨_, lt4 1⟩ ⟨_, lt4 2⟩ ⟨_, lt4 3⟩ ?_
  · exact this
  · show pq_perm (rkT B Z n) n = true
    unfold pq_perm
    refine List.all_eq_true.mpr (fun i hi => ?_)
    have hi := List.mem_range.mp hi
    have a := rkT_at (B := B) (Z := Z) hn hi
    have up := rkN_up (B := B) (Z := Z) hi
    rw [Bool.and_eq_true, decide_eq_true_eq]
    refine ⟨by omega, List.all_eq_true.mpr (fun j hj => ?_)⟩
    have hj := List.mem_range.mp hj
    have b := rkT_at (B := B) (Z := Z) hn (i := j) (by omega)
    refine decide_eq_true (fun e => ?_)
    have e1 := rkN_iff (B := B) (Z := Z) (n := n) hi (j := j) (by omega)
    have e2 := rkN_iff (B := B) (Z := Z) (n := n) (i := j) (by omega) hi
    have n1 : ¬ rkA B Z i j = true := by rw [e1]; omega
    have n2 : ¬ rkA B Z j i = true := by rw [e2]; omega
    have n1 := mt rkA_iff.mpr n1
    have n2 := mt rkA_iff.mpr n2
    omega
theorem rl_ok.rankOf (h : rl_ok A Ds g) (hQ : qr B u Q) (hk : k < Q.length) (hi : i < Ds.length) : q_rankOf A (q_T A B u) k i = rkV (dk_B Ds (qph Ds Q k)) (dk_Z Ds (qph Ds Q k)) i := by
  have hD := h.D0 hi
  unfold q_rankOf rkV dk_B dk_Z
  rw [h.T hQ hk hD, (h.dat hD).2.2.2.2.1]
theorem rl_ok.ahead (h : rl_ok A Ds g) (hQ : qr B u Q) (hk : k < Q.length) (hi : i < Ds.length) : q_ahead A (q_T A B u) k i = rkN (dk_B Ds (qph Ds Q k)) (dk_Z Ds (qph Ds Q k)) Ds.length i := by
  unfold q_ahead rkN
  rw [h.A0.2.1]
  refine upto_cg _ (fun e n he => ?_)
  rw [h.rankOf hQ hk hi, h.rankOf hQ hk he]
  have := rkA_iff (B := dk_B Ds (qph Ds Q k)) (Z := dk_Z Ds (qph Ds Q k)) (e := e) (d := i)
  generalize rkV (dk_B Ds (qph Ds Q k)) (dk_Z Ds (qph Ds Q k)) i = x at *
  generalize rkV (dk_B Ds (qph Ds Q k)) (dk_Z Ds (qph Ds Q k)) e = y at *
  show _ = n + (if rkA (dk_B Ds (qph Ds Q k)) (dk_Z Ds (qph Ds Q k)) e i = true then 1 else 0)
  by_cases c : rkA (dk_B Ds (qph Ds Q k)) (dk_Z Ds (qph Ds Q k)) e i = true
  · rw [if_pos c]
    have c := this.mp c
    split
    · rfl
    · rw [if_pos (by omega), if_neg (by omega)]
  · rw [if_neg c]
    have c := mt this.mpr c
    rw [if_neg (by omega)]
    split
    · rw [if_pos (by omega)]
    · rfl
theorem rankF_at {A : Nat → Int} {T : Int → Int → Int} {k i : Int} {j : Nat} : ∀ (f d : Nat), d ≤ j → j < d + f → q_ahead A T k j = i → (∀ e, d ≤ e → e < j → q_ahead A T k (e : Nat) ≠ i) → q_rankF A T k i f d = j := by
  intro f
  induction f with
  | zero => intro d h1 h2; omega
  | succ f ih =>
    intro d h1 h2 h3 h4
    show (if q_ahead A T k d = i then (d : Int) else q_rankF A T k i f (d + 1)) = j
    by_cases e : d = j
    · subst e; rw [if_pos h3]
    · rw [if_neg (h4 d (Nat.le_refl _) (by omega))]
      exact ih (d + 1) (by omega) (by omega) h3 (fun e h5 h6 => h4 e (by omega) h6)
theorem rankF_no {A : Nat → Int} {T : Int → Int → Int} {k i : Int} : ∀ (f d : Nat), (∀ e, d ≤ e → e < d + f → q_ahead A T k (e : Nat) ≠ i) → q_rankF A T k i f d = -1 := by
  intro f
  induction f with
  | zero => intro d _; rfl
  | succ f ih =>
    intro d h
    show (if q_ahead A T k d = i then (d : Int) else q_rankF A T k i f (d + 1)) = -1
    rw [if_neg (h d (Nat.le_refl _) (by omega))]
    exact ih (d + 1) (fun e h1 h2 => h e (by omega) (by omega))
theorem rl_ok.rankAt (h : rl_ok A Ds g) (hQ : qr B u Q) (hk : k < Q.length) {j : Nat} (hj : j < Ds.length) {x : Int} (hx : ((rkT (dk_B Ds (qph Ds Q k)) (dk_Z Ds (qph Ds Q k)) Ds.length j : Nat) : Int) = x) : q_rankF A (q_T A B u) k x (A 0).toNat 0 = j := by
  rw [h.A0.2.1]
  have a := rkT_at (B := dk_B Ds (qph Ds Q k)) (Z := dk_Z Ds (qph Ds Q k)) h.A0.2.2 hj
  refine rankF_at _ 0 (Nat.zero_le _) (by omega) (by rw [h.ahead hQ hk hj]; omega) (fun e _ he z => ?_)
  rw [h.ahead hQ hk (by omega)] at z
  have e1 := rkN_iff (B := dk_B Ds (qph Ds Q k)) (Z := dk_Z Ds (qph Ds Q k)) (n := Ds.length) (i := e) (j := j) (by omega) hj
  have e2 := rkN_iff (B := dk_B Ds (qph Ds Q k)) (Z := dk_Z Ds (qph Ds Q k)) (n := Ds.length) (i := j) (j := e) hj (by omega)
  rw [rkA_iff] at e1 e2
  omega
theorem rl_ok.rankNo (h : rl_ok A Ds g) (hQ : qr B u Q) (hk : k < Q.length) {x : Int} (hx : ∀ j, j < Ds.length → ((rkT (dk_B Ds (qph Ds Q k)) (dk_Z Ds (qph Ds Q k)) Ds.length j : Nat) : Int) ≠ x) : q_rankF A (q_T A B u) k x (A 0).toNat 0 = -1 := by
  rw [h.A0.2.1]
  refine rankF_no _ 0 (fun e _ he => ?_)
  rw [h.ahead hQ hk (by omega), ← rkT_at h.A0.2.2 (by omega)]
  exact hx e (by omega)
end
