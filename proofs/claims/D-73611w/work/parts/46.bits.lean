set_option maxRecDepth 100000
/-! sets as bits -/
theorem bt_and1 (y : BitVec 32) : (y &&& 1#32 = 1#32) = (y.getLsbD 0 = true) := by
  rw [BitVec.and_one_eq_setWidth_ofBool_getLsbD]
  cases y.getLsbD 0 <;> decide
theorem bt_k0 : ∀ k : Fin 31, ((iI ((k : Nat) : Int) &&& 31).toBitVec.smod 32).toNat = (k : Nat) := by decide +kernel
theorem bt_k {k : Nat} (hk : k < 31) : ((iI (k : Int) &&& 31).toBitVec.smod 32).toNat = k := bt_k0 ⟨k, hk⟩
theorem s_has_bit (x : Int) {k : Nat} (hk : k < 31) : s_has x k = (iI x).toBitVec.getLsbD k := by
  unfold s_has
  have e : ((iI x >>> (iI (k : Int) &&& 31)) &&& 1 = 1) = ((iI x).toBitVec.getLsbD k = true) := by
    rw [← Int32.toBitVec_inj, Int32.toBitVec_and, Int32.toBitVec_shiftRight]
    show (_ &&& 1#32 = 1#32) = _
    rw [bt_and1, BitVec.sshiftRight_eq', bt_k hk, BitVec.getLsbD_sshiftRight]
    simp
    omega
  cases h : (iI x).toBitVec.getLsbD k with
  | true => exact decide_eq_true (by rw [e]; exact h)
  | false => exact decide_eq_false (by rw [e, h]; decide)
theorem iI_or (x y : Int) : iI (s_or x y) = iI x ||| iI y := by unfold s_or; rw [iI_of]
theorem iI_bit (v : Int) : iI (s_bit v) = 1 <<< (iI v &&& 31) := by unfold s_bit; rw [iI_of]
theorem s_has_or (x y : Int) {k : Nat} (hk : k < 31) : s_has (s_or x y) k = (s_has x k || s_has y k) := by
  rw [s_has_bit _ hk, s_has_bit _ hk, s_has_bit _ hk, iI_or, Int32.toBitVec_or, BitVec.getLsbD_or]
theorem s_has_b0 : ∀ v k : Fin 10, s_has (s_bit ((v : Nat) : Int)) ((k : Nat) : Int) = decide ((v : Nat) = (k : Nat)) := by decide +kernel
theorem s_has_bit1 {v k : Nat} (hv : v < 10) (hk : k < 10) : s_has (s_bit v) k = decide (v = k) := s_has_b0 ⟨v, hv⟩ ⟨k, hk⟩
theorem s_has_z0 : ∀ k : Fin 10, s_has 0 ((k : Nat) : Int) = false := by decide +kernel
theorem s_has_0 {k : Nat} (hk : k < 10) : s_has 0 k = false := s_has_z0 ⟨k, hk⟩
/-- the versions in which a token is -/
theorem a_where_has {A : Nat → Int} {n t : Int} (hA : a_ok A n) (ht : 0 ≤ t ∧ t < n) {k : Nat} (hk : k < 10) : s_has (a_where A t) k = (decide ((k : Int) < a_many A (a_whose A t)) && !decide (a_place A (a_whose A t) k t = -1)) := by
  have hw := (hA.2.2.2.2.2 t ht.1 ht.2).1
  have hv := hA.2.2.1 _ hw.1 hw.2
  have gen : ∀ j : Nat, j ≤ 10 → s_has (upto j (fun v s => if a_place A (a_whose A t) v t = -1 then s_or s 0 else s_or s (s_bit v)) 0) k = (decide (k < j) && !decide (a_place A (a_whose A t) k t = -1)) := by
    intro j
    induction j with
    | zero => intro _; rw [upto_0, s_has_0 hk, decide_eq_false (by omega), Bool.false_and]
    | succ j ih =>
      intro hj
      have ih := ih (by omega)
      rw [upto_s]
      by_cases h : a_place A (a_whose A t) j t = -1
      · rw [if_pos h, s_has_or _ _ (by omega), s_has_0 hk, Bool.or_false, ih]
        by_cases e : k = j
        · subst e
          rw [decide_eq_true h]
          simp
        · have : decide (k < j) = decide (k < j + 1) := by rw [decide_eq_decide]; omega
          rw [this]
      · rw [if_neg h, s_has_or _ _ (by omega), s_has_bit1 (by omega) hk, ih]
        by_cases e : j = k
        · subst e
          rw [decide_eq_false h]
          simp
        · have : decide (k < j) = decide (k < j + 1) := by rw [decide_eq_decide]; omega
          rw [this, decide_eq_false e, Bool.or_false]
  unfold a_where
  rw [gen _ (by omega)]
  congr 1
  rw [decide_eq_decide]
  omega
