set_option maxRecDepth 100000
/-! the component: zeros ahead and behind; archive, version, life -/
def c_tz49 (v0 v1 : Int32) : Int32 := if v0 ≤ 16 then (if v0 ≤ 4 then v1 + ((v0.toUInt32 >>> ((1 : Int32).toUInt32 &&& Int32.toUInt32 31)).toInt32) else (v1 + 2) + ((((v0.toUInt32 >>> ((2 : Int32).toUInt32 &&& Int32.toUInt32 31)).toInt32).toUInt32 >>> ((1 : Int32).toUInt32 &&& Int32.toUInt32 31)).toInt32)) else (if ((v0.toUInt32 >>> ((4 : Int32).toUInt32 &&& Int32.toUInt32 31)).toInt32) ≤ 4 then (v1 + 4) + ((((v0.toUInt32 >>> ((4 : Int32).toUInt32 &&& Int32.toUInt32 31)).toInt32).toUInt32 >>> ((1 : Int32).toUInt32 &&& Int32.toUInt32 31)).toInt32) else ((v1 + 4) + 2) + ((((((v0.toUInt32 >>> ((4 : Int32).toUInt32 &&& Int32.toUInt32 31)).toInt32).toUInt32 >>> ((2 : Int32).toUInt32 &&& Int32.toUInt32 31)).toInt32).toUInt32 >>> ((1 : Int32).toUInt32 &&& Int32.toUInt32 31)).toInt32))
def c_tzy (v0 : Int32) : Int32 := (v0 ^^^ (-1)) &&& (v0 - 1)
def c_tz (v0 : Int32) : Int32 := if 0 < c_tzy v0 then (if c_tzy v0 ≤ 256 then c_tz49 (c_tzy v0) 1 else c_tz49 (((c_tzy v0).toUInt32 >>> ((8 : Int32).toUInt32 &&& Int32.toUInt32 31)).toInt32) (1 + 8)) else c_tzy v0 &&& 32
theorem c_tz_10 : ∀ x : Fin 1024, (x : Nat) = 0 ∨ (c_tzy (iI ((x : Nat) : Int)) ≤ 65536 ∧ c_tz (iI ((x : Nat) : Int)) = iI (s_first ((x : Nat) : Int))) := by decide +kernel
def c_lz48 (v0 v1 : Int32) : Int32 := if v0 < 16 then (if v0 < 4 then v1 - ((v0.toUInt32 >>> ((1 : Int32).toUInt32 &&& Int32.toUInt32 31)).toInt32) else (v1 + (-2)) - ((((v0.toUInt32 >>> ((2 : Int32).toUInt32 &&& Int32.toUInt32 31)).toInt32).toUInt32 >>> ((1 : Int32).toUInt32 &&& Int32.toUInt32 31)).toInt32)) else (if ((v0.toUInt32 >>> ((4 : Int32).toUInt32 &&& Int32.toUInt32 31)).toInt32) < 4 then (v1 + (-4)) - ((((v0.toUInt32 >>> ((4 : Int32).toUInt32 &&& Int32.toUInt32 31)).toInt32).toUInt32 >>> ((1 : Int32).toUInt32 &&& Int32.toUInt32 31)).toInt32) else ((v1 + (-4)) + (-2)) - ((((((v0.toUInt32 >>> ((4 : Int32).toUInt32 &&& Int32.toUInt32 31)).toInt32).toUInt32 >>> ((2 : Int32).toUInt32 &&& Int32.toUInt32 31)).toInt32).toUInt32 >>> ((1 : Int32).toUInt32 &&& Int32.toUInt32 31)).toInt32))
def c_lz (v0 : Int32) : Int32 := if v0 < 256 then c_lz48 v0 31 else c_lz48 ((v0.toUInt32 >>> ((8 : Int32).toUInt32 &&& Int32.toUInt32 31)).toInt32) (31 + (-8))
theorem c_lz_10 : ∀ x : Fin 1024, (x : Nat) = 0 ∨ (0 < iI ((x : Nat) : Int) ∧ iI ((x : Nat) : Int) < 65536 ∧ c_lz (iI ((x : Nat) : Int)) = iI (31 - s_last ((x : Nat) : Int))) := by decide +kernel
section
variable {E : pw_E} {d : Nat} {w : pw_W}
theorem cz_tz_ok {y : Int} {K : Int32 → pw_W → Prop} (hd : 1 ≤ d) (hy : 0 < y ∧ y < 1024) (H : K (iI (s_first y)) w) : pw_Cl E m_J21_numberOfTrailingZeros d [.int (iI y)] w (c_i K) := by
  replace hd := pw_d1 hd; obtain ⟨e, rfl, hd⟩ := hd
  have h := c_tz_10 ⟨y.toNat, by omega⟩
  have ey : ((y.toNat : Nat) : Int) = y := by omega
  have h : y.toNat = 0 ∨ (c_tzy (iI ((y.toNat : Nat) : Int)) ≤ 65536 ∧ c_tz (iI ((y.toNat : Nat) : Int)) = iI (s_first ((y.toNat : Nat) : Int))) := h
  rw [ey] at h
  obtain ⟨h1, h2⟩ := h.resolve_left (by omega)
  rw [← h2] at H
  have t49 : ∀ a b : Int32, K (c_tz49 a b) w → pw_Wp E m_J21_numberOfTrailingZeros (e + 1) 49 [some (.int a), some (.int b)] [] w (c_i K) := by
    intro a b hk
    refine s_J21_numberOfTrailingZeros_49 _ _ ?_
    unfold c_tz49 at hk
    by_cases c1 : a ≤ 16
    · rw [if_pos c1] at hk
      refine ifT c1 ?_
      by_cases c2 : a ≤ 4
      · rw [if_pos c2] at hk
        exact ifT c2 ⟨_, rfl, hk⟩
      · rw [if_neg c2] at hk
        exact ifF c2 ⟨_, rfl, hk⟩
    · rw [if_neg c1] at hk
      refine ifF c1 ?_
      by_cases c2 : ((a.toUInt32 >>> ((4 : Int32).toUInt32 &&& Int32.toUInt32 31)).toInt32) ≤ 4
      · rw [if_pos c2] at hk
        exact ifT c2 ⟨_, rfl, hk⟩
      · rw [if_neg c2] at hk
        exact ifF c2 ⟨_, rfl, hk⟩
  refine e_J21_numberOfTrailingZeros _ (s_J21_numberOfTrailingZeros_0 _ ?_)
  unfold c_tz at H
  show (if 0 < c_tzy (iI y) then (if c_tzy (iI y) ≤ 65536 then (if c_tzy (iI y) ≤ 256 then _ else _) else _) else _)
  by_cases c1 : 0 < c_tzy (iI y)
  · rw [if_pos c1] at H
    rw [if_pos c1, if_pos h1]
    by_cases c2 : c_tzy (iI y) ≤ 256
    · rw [if_pos c2] at H ⊢
      exact t49 _ _ H
    · rw [if_neg c2] at H ⊢
      exact t49 _ _ H
  · rw [if_neg c1] at H ⊢
    exact ⟨_, rfl, H⟩
theorem cz_lz_ok {y : Int} {K : Int32 → pw_W → Prop} (hd : 1 ≤ d) (hy : 0 < y ∧ y < 1024) (H : K (iI (31 - s_last y)) w) : pw_Cl E m_J21_numberOfLeadingZeros d [.int (iI y)] w (c_i K) := by
  replace hd := pw_d1 hd; obtain ⟨e, rfl, hd⟩ := hd
  have h := c_lz_10 ⟨y.toNat, by omega⟩
  have ey : ((y.toNat : Nat) : Int) = y := by omega
  have h : y.toNat = 0 ∨ (0 < iI ((y.toNat : Nat) : Int) ∧ iI ((y.toNat : Nat) : Int) < 65536 ∧ c_lz (iI ((y.toNat : Nat) : Int)) = iI (31 - s_last ((y.toNat : Nat) : Int))) := h
  rw [ey] at h
  obtain ⟨h0, h1, h2⟩ := h.resolve_left (by omega)
  rw [← h2] at H
  have t48 : ∀ a b : Int32, K (c_lz48 a b) w → pw_Wp E m_J21_numberOfLeadingZeros (e + 1) 48 [some (.int a), some (.int b)] [] w (c_i K) := by
    intro a b hk
    refine s_J21_numberOfLeadingZeros_48 _ _ ?_
    unfold c_lz48 at hk
    by_cases c1 : a < 16
    · rw [if_pos c1] at hk
      refine ifT c1 ?_
      by_cases c2 : a < 4
      · rw [if_pos c2] at hk
        exact ifT c2 ⟨_, rfl, hk⟩
      · rw [if_neg c2] at hk
        exact ifF c2 ⟨_, rfl, hk⟩
    · rw [if_neg c1] at hk
      refine ifF c1 ?_
      by_cases c2 : ((a.toUInt32 >>> ((4 : Int32).toUInt32 &&& Int32.toUInt32 31)).toInt32) < 4
      · rw [if_pos c2] at hk
        exact ifT c2 ⟨_, rfl, hk⟩
      · rw [if_neg c2] at hk
        exact ifF c2 ⟨_, rfl, hk⟩
  refine e_J21_numberOfLeadingZeros _ (s_J21_numberOfLeadingZeros_0 _ (ifT h0 (ifT h1 ?_)))
  unfold c_lz at H
  by_cases c2 : iI y < 256
  · rw [if_pos c2] at H
    exact ifT c2 (t48 _ _ H)
  · rw [if_neg c2] at H
    exact ifF c2 (t48 _ _ H)
end
