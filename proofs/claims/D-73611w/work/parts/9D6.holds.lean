set_option maxRecDepth 100000
/-! the plain law: bits; in which versions questions hold -/
theorem bv_zero {x : BitVec 32} (h : ∀ k, k < 32 → x.getLsbD k = false) : x = 0#32 := by
  apply BitVec.eq_of_getLsbD_eq
  intro k hk
  rw [h k hk]
  simp
theorem iI_bv_lt {x : Int} (hx : 0 ≤ x ∧ x < 1024) {k : Nat} (hk : 10 ≤ k) : (iI x).toBitVec.getLsbD k = false := by
  have e : (iI x).toBitVec = BitVec.ofNat 32 x.toNat := by
    unfold iI
    show BitVec.ofInt 32 x = _
    obtain ⟨n, rfl⟩ := Int.eq_ofNat_of_zero_le hx.1
    rw [Int.toNat_natCast, BitVec.ofInt_natCast]
  rw [e, BitVec.getLsbD_ofNat]
  have : x.toNat.testBit k = false := Nat.testBit_lt_two_pow (Nat.lt_of_lt_of_le (show x.toNat < 2 ^ 10 by omega) (Nat.pow_le_pow_right (by decide) hk))
  rw [this, Bool.and_false]
theorem toInt_0 {x : Int32} : x.toInt = 0 ↔ x.toBitVec = 0#32 := by
  constructor
  · intro h
    have : x = iI 0 := by rw [← h]; exact (iI_of x).symm
    rw [this]; rfl
  · intro h
    have : x = 0 := Int32.toBitVec_inj.mp h
    rw [this]; rfl
theorem s_has_and (x y : Int) {k : Nat} (hk : k < 31) : s_has (s_and x y) k = (s_has x k && s_has y k) := by
  rw [s_has_bit _ hk, s_has_bit _ hk, s_has_bit _ hk]
  unfold s_and
  rw [iI_of, Int32.toBitVec_and, BitVec.getLsbD_and]
/-- nothing is in both, told by bits -/
theorem and_zero {x : Int} (y : Int32) (hx : 0 ≤ x ∧ x < 1024) : Int32.toInt (iI x &&& y) = 0 ↔ ∀ k : Nat, k < 10 → s_has x k = true → y.toBitVec.getLsbD k = false := by
  rw [toInt_0, Int32.toBitVec_and]
  constructor
  · intro h k hk hs
    have := congrArg (fun z => BitVec.getLsbD z k) h
    simp only [BitVec.getLsbD_and] at this
    rw [s_has_bit _ (by omega)] at hs
    rw [hs] at this
    simpa using this
  · intro h
    refine bv_zero (fun k hk => ?_)
    rw [BitVec.getLsbD_and]
    by_cases q : k < 10
    · cases e : (iI x).toBitVec.getLsbD k with
      | false => rfl
      | true => rw [h k q (by rw [s_has_bit _ (by omega)]; exact e)]; rfl
    · rw [iI_bv_lt hx (by omega)]; rfl
theorem till_bits : ∀ v k : Fin 10, (((2 : Int32) <<< (iI ((v : Nat) : Int) &&& 31)) - 1).toBitVec.getLsbD (k : Nat) = decide ((k : Nat) ≤ (v : Nat)) := by decide +kernel
theorem till_0 {x : Int} (hx : 0 ≤ x ∧ x < 1024) {v : Nat} (hv : v < 10) : s_till x v = 0 ↔ ∀ k : Nat, k ≤ v → s_has x k = false := by
  unfold s_till
  rw [and_zero _ hx]
  constructor
  · intro h k hk
    cases e : s_has x k with
    | false => rfl
    | true =>
      have := h k (by omega) e
      rw [till_bits ⟨v, hv⟩ ⟨k, by omega⟩] at this
      exact absurd hk (of_decide_eq_false this)
  · intro h k hk hs
    rw [till_bits ⟨v, hv⟩ ⟨k, hk⟩]
    refine decide_eq_false (fun z => ?_)
    rw [h k z] at hs
    cases hs
theorem andn_0 {x y : Int} (hx : 0 ≤ x ∧ x < 1024) : s_andn x y = 0 ↔ ∀ k : Nat, k < 10 → s_has x k = true → s_has y k = true := by
  unfold s_andn
  rw [and_zero _ hx]
  have e : ∀ k : Nat, k < 10 → (iI y ^^^ (-1)).toBitVec.getLsbD k = !s_has y k := by
    intro k hk
    rw [Int32.toBitVec_xor, BitVec.getLsbD_xor, s_has_bit _ (by omega)]
    have : ∀ k : Fin 10, ((-1 : Int32)).toBitVec.getLsbD (k : Nat) = true := by decide
    rw [this ⟨k, hk⟩, Bool.xor_true]
  constructor
  · intro h k hk hs
    have := h k hk hs
    rw [e k hk] at this
    simpa using this
  · intro h k hk hs
    rw [e k hk, h k hk hs]; rfl
theorem dk_set_has {φ : Nat → Bool} {k : Nat} (hk : k < 10) : ∀ n, n ≤ 10 → s_has (dk_set φ n) k = (decide (k < n) && φ k) := by
  intro n
  induction n with
  | zero => intro _; exact s_has_0 hk
  | succ n ih =>
    intro hn
    have ih := ih (by omega)
    have e : dk_set φ (n + 1) = if φ n = true then s_or (dk_set φ n) (s_bit n) else s_or (dk_set φ n) 0 := rfl
    rw [e]
    by_cases q : φ n = true
    · rw [if_pos q, s_has_or _ _ (by omega), ih, s_has_bit1 (by omega) hk]
      by_cases z : n = k
      · subst z
        rw [decide_eq_true rfl, decide_eq_true (Nat.lt_succ_self n), q]
        simp
      · rw [decide_eq_false z]
        have : decide (k < n + 1) = decide (k < n) := by rw [decide_eq_decide]; omega
        rw [this]; simp
    · rw [if_neg q, s_has_or _ _ (by omega), ih, s_has_0 hk]
      by_cases z : n = k
      · subst z
        have : φ n = false := by simpa using q
        rw [this]; simp
      · have : decide (k < n + 1) = decide (k < n) := by rw [decide_eq_decide]; omega
        rw [this]; simp
theorem dk_set_cg {φ ψ : Nat → Bool} (n : Nat) (h : ∀ k, k < n → φ k = ψ k) : dk_set φ n = dk_set ψ n := upto_cg n (fun k a hk => by rw [h k hk])
theorem dk_ones {φ : Nat → Bool} {n : Nat} (hn : n ≤ 10) : s_ones (dk_set φ n) = sm n (fun k => if φ k = true then 1 else 0) := by
  have e : s_ones (dk_set φ n) = sm 10 (fun k => if s_has (dk_set φ n) k = true then 1 else 0) := rfl
  rw [e, sm_lt hn]
  refine sm_cg _ (fun k hk => ?_)
  rw [dk_set_has hk n hn]
  by_cases q : k < n
  · rw [if_pos q, decide_eq_true q]; rfl
  · rw [if_neg q, decide_eq_false q]; rfl
/-- the twin's rows of a set of questions, and the component's -/
def qr (B : Nat → Int) (u : Int) (Q : List qQ) : Prop := q_n B u = Q.length ∧ Q.length ≤ 8 ∧ ∀ (k : Nat) (q : qQ), Q[k]? = some q → qok k q ∧ (q_at B u k 0 = (q.1 : Nat) ∧ q_at B u k 1 = q.2.2.1 ∧ q_at B u k 2 = q.2.2.2) ∧ ((q.1 = 0 → q.2.2.1 = q.2.1.length ∧ 1 ≤ q.2.1.length ∧ q.2.1.length ≤ 4) ∧ (q.1 = 2 → q.2.1.length = 1) ∧ (3 ≤ q.1 → q.2.1.length = 0)) ∧ ∀ (i : Nat) (s : List Int), q.2.1[i]? = some s → q_at B u k (3 + i) = s_code s ∧ (∀ c ∈ s, 97 ≤ c ∧ c ≤ 122) ∧ 1 ≤ s.length ∧ s.length ≤ 4
theorem qphi_len (Ds : List dc) (Q : List qQ) : (qphi Ds Q).length = Q.length := by
  have : ∀ (Q : List qQ) (φs : List (Nat → Nat → Bool)), (Q.foldl (fun φs q => φs ++ [qst Ds q φs]) φs).length = φs.length + Q.length := by
    intro Q
    induction Q with
    | nil => intro φs; rfl
    | cons q Q ih => intro φs; rw [List.foldl_cons, ih]; simp; omega
  have := this Q []
  simpa [qphi] using this
theorem qphi_app (Ds : List dc) (Q R : List qQ) : ∃ S, qphi Ds (Q ++ R) = qphi Ds Q ++ S := by
  unfold qphi
  rw [List.foldl_append]
  generalize Q.foldl (fun φs q => φs ++ [qst Ds q φs]) [] = φs
  induction R generalizing φs with
  | nil => exact ⟨[], by simp⟩
  | cons r R ih =>
    rw [List.foldl_cons]
    obtain ⟨S, hS⟩ := ih (φs ++ [qst Ds r φs])
    exact ⟨qst Ds r φs :: S, by rw [hS]; simp⟩
def qph (Ds : List dc) (Q : List qQ) (k : Nat) : Nat → Nat → Bool := (qphi Ds Q).getD k (fun _ _ => false)
theorem qph_take (Ds : List dc) (Q : List qQ) {a k : Nat} (ha : a < k) (hk : k ≤ Q.length) : (qphi Ds (Q.take k)).getD a (fun _ _ => false) = qph Ds Q a := by
  obtain ⟨S, hS⟩ := qphi_app Ds (Q.take k) (Q.drop k)
  rw [List.take_append_drop] at hS
  unfold qph
  rw [hS]
  have hl : a < (qphi Ds (Q.take k)).length := by rw [qphi_len, List.length_take]; omega
  rw [List.getD_eq_getElem?_getD, List.getD_eq_getElem?_getD, List.getElem?_append_left hl]
theorem qph_at (Ds : List dc) (Q : List qQ) {k : Nat} {q : qQ} (hk : Q[k]? = some q) : qph Ds Q k = qst Ds q (qphi Ds (Q.take k)) := by
  have hl := (List.getElem?_eq_some_iff.mp hk).1
  rw [← qph_take Ds Q (Nat.lt_succ_self k) hl, take_s hk, qphi_s]
  have e := qphi_len Ds (Q.take k)
  rw [List.length_take, Nat.min_eq_left (by omega)] at e
  rw [List.getD_eq_getElem?_getD, List.getElem?_append_right (by omega), e, Nat.sub_self]
  rfl
section
variable {A B : Nat → Int} {Ds : List dc} {g : Nat → Nat → Nat} {i v p j t k : Nat} {D : dc} {u : Int} {Q : List qQ} {q : qQ} {s : List Int}
theorem rl_ok.qtimes (h : rl_ok A Ds g) (hi : Ds[i]? = some D) (hv : v < D.1.length) (hQ : qr B u Q) (hk : Q[k]? = some q) (h0 : q.1 = 0) : q_times A B u k i v = dc_times D v q.2.1 := by
  obtain ⟨q1, q2, q3⟩ := hQ
  obtain ⟨a1, ⟨a2, a3, a4⟩, ⟨a5, a6, a7⟩, a8⟩ := q3 k q hk
  obtain ⟨b1, b2, b3⟩ := a5 h0
  unfold q_times dc_times
  rw [(h.len hi hv).1, Int.toNat_natCast]
  show sm _ _ = sm _ _
  rw [sm_lt (f := fun p => if (List.range q.2.1.length).all (fun k => decide (dc_w D v (p + k) = q.2.1.getD k [])) = true then 1 else 0) (n := dc_len D v) (q := dc_len D v + 1 - q.2.1.length) (by omega)]
  refine sm_cg _ (fun p hp => ?_)
  unfold q_begins
  rw [a3, b1, (h.len hi hv).1, Int.toNat_natCast]
  by_cases c : p < dc_len D v + 1 - q.2.1.length
  · rw [if_pos c, decide_eq_true (by omega)]
    have e : (List.range q.2.1.length).all (fun i_1 => decide (a_wordAt A i v ((p : Nat) + (i_1 : Nat)) = q_at B u k (3 + (i_1 : Nat)))) = (List.range q.2.1.length).all (fun k => decide (dc_w D v (p + k) = q.2.1.getD k [])) := by
      refine all_cg (fun x hx => ?_)
      obtain ⟨s, hs⟩ := dc_get hx
      obtain ⟨s1, s2, s3⟩ := a8 x s hs
      rw [s1, dc_getD hs]
      have := h.weq hi hv (p := p + x) (by omega) s2 s3
      rw [← Int.natCast_add]
      simp only [this]
    rw [Bool.true_and, e]
  · rw [if_neg c, decide_eq_false (by omega)]
    rfl
theorem rl_ok.times1 (h : rl_ok A Ds g) (hi : Ds[i]? = some D) (hv : v < D.1.length) (hs : ∀ c ∈ s, 97 ≤ c ∧ c ≤ 122) (hl : 1 ≤ s.length ∧ s.length ≤ 4) : a_times A i v (s_code s) = dc_times D v [s] := by
  unfold a_times dc_times
  rw [(h.len hi hv).1, Int.toNat_natCast]
  refine upto_cg _ (fun p n hp => ?_)
  have hp : p < dc_len D v := hp
  have e := h.weq hi hv hp hs hl
  have e2 : ((List.range [s].length).all (fun k => decide (dc_w D v (p + k) = [s].getD k [])) = true) = (dc_w D v p = s) := by
    show (((decide (dc_w D v (p + 0) = s)) && true) = true) = _
    simp
  simp only [e, e2]
theorem upto_or (f : Nat → Bool) (b : Bool) (n : Nat) : upto n (fun k a => a || f k) b = (b || (List.range n).any f) := by
  induction n with
  | zero => show b = _; simp
  | succ n ih => rw [upto_s, ih, any_succ, Bool.or_assoc]
theorem rl_ok.near (h : rl_ok A Ds g) (hi : Ds[i]? = some D) (hv : v < D.1.length) (hQ : qr B u Q) (hk : Q[k]? = some q) (h1 : q.1 = 1) : q_near A B u k i v = dc_near D v (q.2.1.getD 0 []) (q.2.1.getD 1 []) q.2.2.1.toNat := by
  obtain ⟨q1, q2, q3⟩ := hQ
  obtain ⟨a1, ⟨a2, a3, a4⟩, ⟨a5, a6, a7⟩, a8⟩ := q3 k q hk
  have hl := a1.2.2.1 h1
  have hr := a1.2.2.2.1 (Or.inl h1)
  obtain ⟨s, hs⟩ := dc_get (l := q.2.1) (i := 0) (by omega)
  obtain ⟨t, ht⟩ := dc_get (l := q.2.1) (i := 1) (by omega)
  obtain ⟨s1, s2, s3⟩ := a8 0 s hs
  obtain ⟨t1, t2, t3⟩ := a8 1 t ht
  rw [dc_getD hs, dc_getD ht]
  unfold q_near dc_near
  rw [(h.len hi hv).1, Int.toNat_natCast]
  have e : ∀ (p : Nat) (b : Bool), upto (dc_len D v) (fun e b => b || q_near1 A B u k i v p e) b = (b || (List.range (dc_len D v)).any (fun e => q_near1 A B u k i v p e)) := fun p b => upto_or (fun e => q_near1 A B u k i v p e) b _
  rw [show (fun (p : Nat) (b : Bool) => upto (dc_len D v) (fun e b => b || q_near1 A B u k i v p e) b) = (fun (p : Nat) (b : Bool) => b || (List.range (dc_len D v)).any (fun e => q_near1 A B u k i v p e)) from funext (fun p => funext (fun b => e p b)), upto_or, Bool.false_or]
  refine any_cg (fun p hp => ?_)
  rw [Bool.eq_iff_iff, Bool.and_eq_true, List.any_eq_true, List.any_eq_true, decide_eq_true_eq]
  have w1 := h.weq hi hv hp s2 s3
  constructor
  · rintro ⟨e, he, z⟩
    have hel := List.mem_range.mp he
    unfold q_near1 at z
    simp only [Bool.and_eq_true, decide_eq_true_eq] at z
    obtain ⟨z1, z2, z3⟩ := z
    have w2 := h.weq hi hv hel t2 t3
    rw [show q_at B u k 3 = s_code s from s1, w1] at z2
    rw [show q_at B u k 4 = s_code t from t1, w2] at z3
    rw [a3] at z1
    refine ⟨z2, e, he, decide_eq_true ⟨?_, ?_, ?_, z3⟩⟩
    · split at z1 <;> omega
    · split at z1 <;> omega
    · rintro rfl
      rw [if_pos (Int.le_refl _)] at z1
      omega
  · rintro ⟨z2, e, he, z⟩
    have hel := List.mem_range.mp he
    have w2 := h.weq hi hv hel t2 t3
    obtain ⟨y1, y2, y3, y4⟩ := of_decide_eq_true z
    refine ⟨e, he, ?_⟩
    unfold q_near1
    simp only [Bool.and_eq_true, decide_eq_true_eq]
    rw [show q_at B u k 3 = s_code s from s1, w1, show q_at B u k 4 = s_code t from t1, w2, a3]
    refine ⟨?_, z2, y4⟩
    split <;> omega
/-- a question holds where the twin's does -/
theorem rl_ok.hold (h : rl_ok A Ds g) (hQ : qr B u Q) (hk : Q[k]? = some q) {T : Int → Int → Int} (hT : ∀ (a i : Nat) (D : dc), a < k → Ds[i]? = some D → T a i = dk_set (qph Ds Q a i) D.1.length) (hi : Ds[i]? = some D) (hv : v < D.1.length) : q_hold A B u T k i v = qph Ds Q k i v := by
  have hQ0 := hQ
  obtain ⟨q1, q2, q3⟩ := hQ
  obtain ⟨a1, ⟨a2, a3, a4⟩, ⟨a5, a6, a7⟩, a8⟩ := q3 k q hk
  obtain ⟨⟨g1, g2⟩, g3, g4, g5, g6, g7, g8, g9, g10⟩ := h.dat hi
  have hkl := (List.getElem?_eq_some_iff.mp hk).1
  obtain ⟨b1, b2, b3, b4, b5, b6⟩ := a1
  rw [qph_at Ds Q hk]
  unfold q_hold qst
  rw [a2, a3, a4]
  have hasT : ∀ (a w : Nat), a < k → w < D.1.length → s_has (T a i) w = qph Ds Q a i w := by
    intro a w ha hw
    rw [hT a i D ha hi, dk_set_has (by omega) _ g8, decide_eq_true hw]; rfl
  have c : ∀ n : Nat, (((q.1 : Nat) : Int) = n) = (q.1 = n) := fun n => by rw [eq_iff_iff]; omega
  have c0 := c 0; have c1 := c 1; have c2 := c 2; have c3 := c 3; have c4 := c 4; have c5 := c 5; have c6 := c 6
  by_cases z0 : q.1 = 0
  · rw [if_pos (by omega), if_pos z0, h.qtimes hi hv hQ0 hk z0, g9]
    rw [Bool.eq_iff_iff, Bool.not_eq_true', decide_eq_false_iff_not, decide_eq_true_eq]
    omega
  rw [if_neg (by omega), if_neg z0]
  by_cases z1 : q.1 = 1
  · rw [if_pos (by omega), if_pos z1, h.near hi hv hQ0 hk z1, g9]
  rw [if_neg (by omega), if_neg z1]
  by_cases z2 : q.1 = 2
  · rw [if_pos (by omega), if_pos z2]
    have hl := a6 z2
    obtain ⟨s, hs⟩ := dc_get (l := q.2.1) (i := 0) (by omega)
    obtain ⟨s1, s2, s3⟩ := a8 0 s hs
    have e1 : q.2.1 = [s] := by
      match hq : q.2.1, hl, hs with
      | [x], _, hs => cases hs; rfl
    rw [show q_at B u k 3 = s_code s from s1, h.times1 hi hv s2 s3, g9, e1]
    rw [Bool.eq_iff_iff, Bool.not_eq_true', decide_eq_false_iff_not, decide_eq_true_eq]
    omega
  rw [if_neg (by omega), if_neg z2]
  obtain ⟨x1, x2⟩ := b5 (by omega)
  have ea : ((q.2.2.1.toNat : Nat) : Int) = q.2.2.1 := by omega
  have pa : (qphi Ds (Q.take k)).getD q.2.2.1.toNat (fun _ _ => false) = qph Ds Q q.2.2.1.toNat := qph_take Ds Q (by omega) (by omega)
  rw [pa, ← ea, Int.toNat_natCast]
  generalize q.2.2.1.toNat = a at ea pa
  have ha : a < k := by omega
  by_cases z3 : q.1 = 3
  · rw [if_pos (by omega), if_pos z3, hasT a v ha hv]
  rw [if_neg (by omega), if_neg z3]
  by_cases z4 : q.1 = 4
  · rw [if_pos (by omega), if_pos z4, hT a i D ha hi, Bool.eq_iff_iff, Bool.not_eq_true', decide_eq_false_iff_not, till_0 (dk_set_r _ _ g8) (by omega), List.any_eq_true]
    constructor
    · intro y
      refine Classical.byContradiction (fun n => y (fun w hw => ?_))
      rw [dk_set_has (by omega) _ g8]
      cases e : qph Ds Q a i w with
      | false => simp
      | true => exact absurd ⟨w, List.mem_range.mpr (by omega), e⟩ n
    · rintro ⟨w, hw, e⟩ y
      have hw := List.mem_range.mp hw
      have := y w (by omega)
      rw [dk_set_has (by omega) _ g8, decide_eq_true (by omega), e] at this
      cases this
  rw [if_neg (by omega), if_neg z4]
  by_cases z5 : q.1 = 5
  · rw [if_pos (by omega), if_pos z5, hasT a v ha hv]
    have ev : decide ((v : Int) = 0) = decide (v = 0) := by rw [decide_eq_decide]; omega
    rw [ev]
    by_cases y : v = 0
    · rw [decide_eq_true y]; rfl
    · rw [show ((v : Int) - 1) = ((v - 1 : Nat) : Int) by omega, hasT a (v - 1) ha (by omega)]
  rw [if_neg (by omega), if_neg z5]
  obtain ⟨y1, y2⟩ := b6 (by omega)
  have eb : ((q.2.2.2.toNat : Nat) : Int) = q.2.2.2 := by omega
  have pb : (qphi Ds (Q.take k)).getD q.2.2.2.toNat (fun _ _ => false) = qph Ds Q q.2.2.2.toNat := qph_take Ds Q (by omega) (by omega)
  rw [pb, ← eb, Int.toNat_natCast]
  generalize q.2.2.2.toNat = b at eb pb
  have hb : b < k := by omega
  by_cases z6 : q.1 = 6
  · rw [if_pos (by omega), if_pos z6, s_has_and _ _ (by omega), hasT a v ha hv, hasT b v hb hv]
  rw [if_neg (by omega), if_neg z6, s_has_or _ _ (by omega), hasT a v ha hv, hasT b v hb hv]
  cases qph Ds Q a i v <;> cases qph Ds Q b i v <;> rfl
theorem rl_ok.tab (h : rl_ok A Ds g) (hQ : qr B u Q) : ∀ n, n ≤ Q.length → ∀ (k i : Nat) (D : dc), k < n → Ds[i]? = some D → q_tab A B u n k i = dk_set (qph Ds Q k i) D.1.length := by
  intro n
  induction n with
  | zero => intro _ k i D hk; omega
  | succ n ih =>
    intro hn k i D hk hi
    have ih := ih (by omega)
    show (if (k : Int) = n then (if a_isDoc A i = true then q_set1 A B u (q_tab A B u n) n i (a_many A i).toNat else 0) else q_tab A B u n k i) = _
    by_cases e : k = n
    · subst e
      rw [if_pos rfl]
      obtain ⟨⟨g1, g2⟩, g3, g4, g5, g6, g7, g8, g9, g10⟩ := h.dat hi
      have hdoc : a_isDoc A i = true := by
        unfold a_isDoc
        rw [g4]
        exact decide_eq_true (by omega)
      rw [if_pos hdoc, g6, Int.toNat_natCast]
      obtain ⟨q, hq⟩ := dc_get (l := Q) (i := k) (by omega)
      exact dk_set_cg (φ := fun v => q_hold A B u (q_tab A B u k) k i v) _ (fun v hv => h.hold hQ hq ih hi hv)
    · rw [if_neg (by omega)]
      exact ih k i D (by omega) hi
theorem rl_ok.T (h : rl_ok A Ds g) (hQ : qr B u Q) (hk : k < Q.length) (hi : Ds[i]? = some D) : q_T A B u k i = dk_set (qph Ds Q k i) D.1.length := by
  unfold q_T
  rw [hQ.1, Int.toNat_natCast]
  exact h.tab hQ _ (Nat.le_refl _) k i D hk hi
end
