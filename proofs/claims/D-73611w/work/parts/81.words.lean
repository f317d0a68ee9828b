set_option maxRecDepth 100000
/-! words as numbers (plain) -/
theorem w_c64 : ∀ c : Fin 256, ((iI ((c : Nat) : Int)).toInt64).toBitVec.toNat = (c : Nat) := by decide +kernel
theorem k_put8_n {w : Int64} {c : Int} {z : Nat} (hw : w.toBitVec.toNat = z) (hz : z < 72057594037927936) (hc : 0 ≤ c ∧ c < 256) : (k_put8 w c).toBitVec.toNat = z * 256 + c.toNat := by
  have e8 : (k_put8 w c).toBitVec = (w.toBitVec <<< 8) ||| ((iI c).toInt64).toBitVec := by
    unfold k_put8
    have : ((8 : Int32).toInt64 &&& 63) = 8 := by decide
    rw [this]
    rfl
  have hcn := w_c64 ⟨c.toNat, by omega⟩
  have hcn : ((iI ((c.toNat : Nat) : Int)).toInt64).toBitVec.toNat = c.toNat := hcn
  rw [show ((c.toNat : Nat) : Int) = c by omega] at hcn
  rw [e8, BitVec.toNat_or, hcn, BitVec.toNat_shiftLeft, hw]
  rw [Nat.shiftLeft_eq, Nat.mod_eq_of_lt (by omega)]
  have := Nat.shiftLeft_add_eq_or_of_lt (b := c.toNat) (i := 8) (by omega) z
  rw [Nat.shiftLeft_eq] at this
  rw [← this]
theorem k_dig {w : Int64} {z : Nat} (hw : w.toBitVec.toNat = z) (hz : z < 4294967296) {k : Int} {n : Nat} (hk : ((iI k).toInt64 &&& 63).toBitVec.smod 64 = BitVec.ofNat 64 n) (hn : n ≤ 24) : Int32.toInt (((w >>> ((iI k).toInt64 &&& 63)) &&& 255).toInt32) = (z / 2 ^ n % 256 : Nat) := by
  rw [Int64.toInt_toInt32]
  have e : ((w >>> ((iI k).toInt64 &&& 63)) &&& 255).toBitVec = (w.toBitVec >>> n) &&& 255#64 := by
    have e1 : (w >>> ((iI k).toInt64 &&& 63)).toBitVec = w.toBitVec.sshiftRight (((iI k).toInt64 &&& 63).toBitVec.smod 64).toNat := rfl
    have e2 : ((w >>> ((iI k).toInt64 &&& 63)) &&& 255).toBitVec = (w >>> ((iI k).toInt64 &&& 63)).toBitVec &&& 255#64 := rfl
    rw [e2, e1, hk, BitVec.toNat_ofNat, Nat.mod_eq_of_lt (by omega), BitVec.sshiftRight_eq_of_msb_false]
    rw [BitVec.msb_eq_false_iff_two_mul_lt]
    omega
  have en : ((w >>> ((iI k).toInt64 &&& 63)) &&& 255).toBitVec.toNat = z / 2 ^ n % 256 := by
    rw [e, BitVec.toNat_and, BitVec.toNat_ushiftRight, hw, Nat.shiftRight_eq_div_pow]
    exact Nat.and_two_pow_sub_one_eq_mod _ 8
  have ei : ((w >>> ((iI k).toInt64 &&& 63)) &&& 255).toInt = ((z / 2 ^ n % 256 : Nat) : Int) := by
    have : ((w >>> ((iI k).toInt64 &&& 63)) &&& 255).toInt = ((w >>> ((iI k).toInt64 &&& 63)) &&& 255).toBitVec.toInt := rfl
    rw [this, BitVec.toInt_eq_toNat_of_lt (by rw [en]; omega), en]
  rw [ei, Int.bmod_def]
  omega
theorem n_of_z {w : Int64} {z : Nat} (hw : w.toBitVec.toNat = z) (hz : z < 4294967296) {a b c d : Nat} (ha : z / 16777216 % 256 = a) (hb : z / 65536 % 256 = b) (hc : z / 256 % 256 = c) (hd : z % 256 = d) : n_of w = (fun n : Int => if (d : Int) = 0 then n else 27 * n + d - 96) ((fun n : Int => if (c : Int) = 0 then n else 27 * n + c - 96) ((fun n : Int => if (b : Int) = 0 then n else 27 * n + b - 96) ((fun n : Int => if (a : Int) = 0 then n else 27 * n + a - 96) 0))) := by
  have h1 := k_dig hw hz (k := 24) (n := 24) (by decide) (by omega)
  have h2 := k_dig hw hz (k := 24 + (-8)) (n := 16) (by decide) (by omega)
  have h3 := k_dig hw hz (k := 24 + (-8) + (-8)) (n := 8) (by decide) (by omega)
  have h4 := k_dig hw hz (k := 24 + (-8) + (-8) + (-8)) (n := 0) (by decide) (by omega)
  rw [show (2 : Nat) ^ 24 = 16777216 from rfl, ha] at h1
  rw [show (2 : Nat) ^ 16 = 65536 from rfl, hb] at h2
  rw [show (2 : Nat) ^ 8 = 256 from rfl, hc] at h3
  rw [show (2 : Nat) ^ 0 = 1 from rfl, Nat.div_one, hd] at h4
  unfold n_of n_ofF n_ofF n_ofF n_ofF n_ofF
  rw [h1, h2, h3, h4]
/-- a word's number by its letters -/
def a27 (ls : List Int) : Int := ls.foldl (fun n c => 27 * n + c - 96) 0
theorem k_num_27 {ls : List Int} (h1 : 1 ≤ ls.length) (h4 : ls.length ≤ 4) (ha : ∀ x ∈ ls, 97 ≤ x ∧ x ≤ 122) : n_of (k_long ls) = a27 ls ∧ 1 ≤ a27 ls ∧ a27 ls < 531441 := by
  have h0 : (0 : Int64).toBitVec.toNat = 0 := rfl
  have el : k_long ls = k_fold 0 ls := by unfold k_long; rw [if_pos (by omega)]
  rw [el]
  match ls, h1, h4, ha with
  | [a], _, _, ha =>
    have a1 := ha a (by simp)
    have z1 := k_put8_n (c := a) h0 (by omega) ⟨by omega, by omega⟩
    have := n_of_z (w := k_fold 0 [a]) z1 (by omega) (a := 0) (b := 0) (c := 0) (d := a.toNat) (by omega) (by omega) (by omega) (by omega)
    rw [this]
    simp only [a27, List.foldl]
    have : ¬ ((a.toNat : Nat) : Int) = 0 := by omega
    rw [if_neg this]
    simp only [Int.ofNat_zero, Int.natCast_zero, if_pos]
    omega
  | [a, b], _, _, ha =>
    have a1 := ha a (by simp)
    have b1 := ha b (by simp)
    have z1 := k_put8_n (c := a) h0 (by omega) ⟨by omega, by omega⟩
    have z2 := k_put8_n (c := b) z1 (by omega) ⟨by omega, by omega⟩
    have := n_of_z (w := k_fold 0 [a, b]) z2 (by omega) (a := 0) (b := 0) (c := a.toNat) (d := b.toNat) (by omega) (by omega) (by omega) (by omega)
    rw [this]
    simp only [a27, List.foldl]
    have c1 : ¬ ((a.toNat : Nat) : Int) = 0 := by omega
    have c2 : ¬ ((b.toNat : Nat) : Int) = 0 := by omega
    rw [if_neg c1, if_neg c2]
    simp only [Int.ofNat_zero, Int.natCast_zero, if_pos]
    omega
  | [a, b, c], _, _, ha =>
    have a1 := ha a (by simp)
    have b1 := ha b (by simp)
    have c1 := ha c (by simp)
    have z1 := k_put8_n (c := a) h0 (by omega) ⟨by omega, by omega⟩
    have z2 := k_put8_n (c := b) z1 (by omega) ⟨by omega, by omega⟩
    have z3 := k_put8_n (c := c) z2 (by omega) ⟨by omega, by omega⟩
    have := n_of_z (w := k_fold 0 [a, b, c]) z3 (by omega) (a := 0) (b := a.toNat) (c := b.toNat) (d := c.toNat) (by omega) (by omega) (by omega) (by omega)
    rw [this]
    simp only [a27, List.foldl]
    have d1 : ¬ ((a.toNat : Nat) : Int) = 0 := by omega
    have d2 : ¬ ((b.toNat : Nat) : Int) = 0 := by omega
    have d3 : ¬ ((c.toNat : Nat) : Int) = 0 := by omega
    rw [if_neg d1, if_neg d2, if_neg d3]
    simp only [Int.ofNat_zero, Int.natCast_zero, if_pos]
    omega
  | [a, b, c, d], _, _, ha =>
    have a1 := ha a (by simp)
    have b1 := ha b (by simp)
    have c1 := ha c (by simp)
    have d1 := ha d (by simp)
    have z1 := k_put8_n (c := a) h0 (by omega) ⟨by omega, by omega⟩
    have z2 := k_put8_n (c := b) z1 (by omega) ⟨by omega, by omega⟩
    have z3 := k_put8_n (c := c) z2 (by omega) ⟨by omega, by omega⟩
    have z4 := k_put8_n (c := d) z3 (by omega) ⟨by omega, by omega⟩
    have := n_of_z (w := k_fold 0 [a, b, c, d]) z4 (by omega) (a := a.toNat) (b := b.toNat) (c := c.toNat) (d := d.toNat) (by omega) (by omega) (by omega) (by omega)
    rw [this]
    simp only [a27, List.foldl]
    have e1 : ¬ ((a.toNat : Nat) : Int) = 0 := by omega
    have e2 : ¬ ((b.toNat : Nat) : Int) = 0 := by omega
    have e3 : ¬ ((c.toNat : Nat) : Int) = 0 := by omega
    have e4 : ¬ ((d.toNat : Nat) : Int) = 0 := by omega
    rw [if_neg e1, if_neg e2, if_neg e3, if_neg e4]
    omega
theorem k_let_ok {T : Nat → Int} {L : Int} {q : Nat} (h : k_sort T L q = 2) : 1 ≤ (k_let T L q).length ∧ (∀ x ∈ k_let T L q, 97 ≤ x ∧ x ≤ 122) ∧ k_next T L q = q + (k_let T L q).length := by
  have hl := k_sort_let h
  refine ⟨?_, k_run_all (T := T) (L := L) (lo := 97) (hi := 122) (L.toNat - q) q, ?_⟩
  · unfold k_let
    rw [k_run_c (by omega) hl]; simp
  · unfold k_next
    rw [if_pos (by omega), if_pos hl]
    rfl
theorem k_num_ok {T : Nat → Int} {L : Int} {q : Nat} (h : k_sort T L q = 2) (hf : k_few T L q = true) : k_num T L q = a27 (k_let T L q) ∧ 1 ≤ k_num T L q ∧ k_num T L q < 531441 := by
  obtain ⟨h1, h2, h3⟩ := k_let_ok h
  have hf : k_next T L q - (q : Int) ≤ 4 := of_decide_eq_true hf
  have := k_num_27 h1 (by omega) h2
  unfold k_num
  rw [this.1]
  exact ⟨rfl, this.2⟩
/-- a text's words as numbers base 256 -/
def b256 (ls : List Int) : Nat := ls.foldl (fun n c => n * 256 + c.toNat) 0
theorem k_fold_n : ∀ (ls : List Int) (w : Int64) (z : Nat), w.toBitVec.toNat = z → z < 256 ^ (8 - ls.length) → ls.length ≤ 8 → (∀ x ∈ ls, 97 ≤ x ∧ x ≤ 122) → (k_fold w ls).toBitVec.toNat = ls.foldl (fun n c => n * 256 + c.toNat) z := by
  intro ls
  induction ls with
  | nil => intro w z hw _ _ _; exact hw
  | cons c ls ih =>
    intro w z hw hz hl ha
    have hc := ha c (by simp)
    have e : 8 - (c :: ls).length = 8 - ls.length - 1 := by simp; omega
    rw [e] at hz
    have hl2 : ls.length ≤ 7 := by simp at hl; omega
    have e2 : 256 ^ (8 - ls.length) = 256 ^ (8 - ls.length - 1) * 256 := by
      rw [← Nat.pow_succ]
      congr 1
      omega
    have hz2 : 256 ^ (8 - ls.length - 1) ≤ 256 ^ 7 := Nat.pow_le_pow_right (by omega) (by omega)
    have e7 : (256 : Nat) ^ 7 = 72057594037927936 := by decide
    have := k_put8_n (c := c) hw (by omega) ⟨by omega, by omega⟩
    have hlt : z * 256 + c.toNat < 256 ^ (8 - ls.length) := by
      rw [e2]
      generalize 256 ^ (8 - ls.length - 1) = B at hz
      have h1 : z * 256 + 256 ≤ B * 256 := by
        have : (z + 1) * 256 ≤ B * 256 := Nat.mul_le_mul_right 256 hz
        omega
      omega
    exact ih (k_put8 w c) _ this hlt (by omega) (fun x hx => ha x (by simp [hx]))
theorem b256_inj : ∀ (n : Nat) (ls ls' : List Int), ls.length ≤ n → (∀ x ∈ ls, 97 ≤ x ∧ x ≤ 122) → (∀ x ∈ ls', 97 ≤ x ∧ x ≤ 122) → b256 ls = b256 ls' → ls = ls' := by
  intro n
  have app : ∀ (l : List Int) (c : Int), b256 (l ++ [c]) = b256 l * 256 + c.toNat := by
    intro l c
    unfold b256
    rw [List.foldl_append]
    rfl
  induction n with
  | zero =>
    intro ls ls' hl ha hb he
    have : ls = [] := List.length_eq_zero_iff.mp (by omega)
    subst this
    rcases List.eq_nil_or_concat ls' with rfl | ⟨l, c, rfl⟩
    · rfl
    · have hc := hb c (by simp)
      rw [List.concat_eq_append, app] at he
      have : b256 [] = 0 := rfl
      omega
  | succ n ih =>
    intro ls ls' hl ha hb he
    rcases List.eq_nil_or_concat ls with rfl | ⟨l, c, rfl⟩
    · rcases List.eq_nil_or_concat ls' with rfl | ⟨l', c', rfl⟩
      · rfl
      · have hc := hb c' (by simp)
        rw [List.concat_eq_append, app] at he
        have : b256 [] = 0 := rfl
        omega
    · rcases List.eq_nil_or_concat ls' with rfl | ⟨l', c', rfl⟩
      · have hc := ha c (by simp)
        rw [List.concat_eq_append, app] at he
        have : b256 [] = 0 := rfl
        omega
      · have hc := ha c (by simp)
        have hc' := hb c' (by simp)
        rw [List.concat_eq_append, List.concat_eq_append, app, app] at he
        have e1 : c = c' := by omega
        have e2 := ih l l' (by simp at hl; omega) (fun x hx => ha x (by simp [hx])) (fun x hx => hb x (by simp [hx])) (by omega)
        rw [e1, e2]
/-- a word is told by its long, if it is not too long -/
theorem k_long_inj {ls ks : List Int} (h1 : 1 ≤ ks.length ∧ ks.length ≤ 8) (ha : ∀ x ∈ ls, 97 ≤ x ∧ x ≤ 122) (hk : ∀ x ∈ ks, 97 ≤ x ∧ x ≤ 122) (he : k_long ls = k_long ks) : ls = ks := by
  have hK : (k_long ks).toBitVec.toNat = b256 ks := by
    unfold k_long
    rw [if_pos h1.2]
    exact k_fold_n ks 0 0 rfl (Nat.pow_pos (by omega)) h1.2 hk
  by_cases h8 : ls.length ≤ 8
  · have hL : (k_long ls).toBitVec.toNat = b256 ls := by
      unfold k_long
      rw [if_pos h8]
      exact k_fold_n ls 0 0 rfl (Nat.pow_pos (by omega)) h8 ha
    rw [he, hK] at hL
    exact (b256_inj _ ls ks (Nat.le_refl _) ha hk hL.symm)
  · have hL : (k_long ls).toBitVec.toNat = b256 ([] : List Int) := by
      unfold k_long
      rw [if_neg h8]
      rfl
    rw [he, hK] at hL
    have := b256_inj _ ks [] (Nat.le_refl _) hk (fun x hx => by cases hx) hL
    rw [this] at h1
    simp at h1
