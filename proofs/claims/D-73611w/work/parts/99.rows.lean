set_option maxRecDepth 100000
/-! the component: rows of ones -/
def s_rows (x : Int) : Int := upto 10 (fun v n => n + (if s_has x v = true ∧ (v = 0 ∨ s_has x ((v : Int) - 1) = false) then 1 else 0)) 0
def c_rw (v0 : Int32) : Int32 := v0 &&& ((v0 <<< (1 &&& 31)) ^^^ (-1))
theorem c_rw_10 : ∀ x : Fin 1024, (0 ≤ (c_rw (iI ((x : Nat) : Int))).toInt ∧ (c_rw (iI ((x : Nat) : Int))).toInt < 1024) ∧ s_ones (c_rw (iI ((x : Nat) : Int))).toInt = s_rows ((x : Nat) : Int) := by decide +kernel
section
variable {E : pw_E} {d : Nat} {w : pw_W}
theorem c_rows_ok {x : Int} {K : Int32 → pw_W → Prop} (hd : 3 ≤ d) (hx : 0 ≤ x ∧ x < 1024) (H : K (iI (s_rows x)) w) : pw_Cl E m_X0_rows d [.int (iI x)] w (c_i K) := by
  obtain ⟨e, rfl, he⟩ := pw_d1 hd
  have hk := c_rw_10 ⟨x.toNat, by omega⟩
  have hk : (0 ≤ (c_rw (iI ((x.toNat : Nat) : Int))).toInt ∧ (c_rw (iI ((x.toNat : Nat) : Int))).toInt < 1024) ∧ s_ones (c_rw (iI ((x.toNat : Nat) : Int))).toInt = s_rows ((x.toNat : Nat) : Int) := hk
  rw [show ((x.toNat : Nat) : Int) = x by omega] at hk
  refine e_X0_rows _ (s_X0_rows_0 _ ?_)
  have e1 : iI x &&& ((iI x <<< (1 &&& 31)) ^^^ (-1)) = iI (c_rw (iI x)).toInt := (iI_of _).symm
  rw [e1]
  refine c_bits_ok (by omega) hk.1 ⟨_, rfl, ?_⟩
  rw [hk.2]
  exact H
end
