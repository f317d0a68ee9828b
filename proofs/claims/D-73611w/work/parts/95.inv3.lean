set_option maxRecDepth 100000
/-! the twin: what always holds, from the start, by feed and end (plain) -/
theorem iB_iB (z : Int) : iB (iB z) = iB z := by
  unfold iB
  rw [iI_of]
  simp
theorem tw_all_0 : tw_all S_0 := by
  refine ⟨⟨⟨by decide, by decide⟩, ⟨fun s _ => ⟨Int.le_refl 0, by show (0 : Int) ≤ 2; omega⟩, fun v v0 v1 => ?_⟩, fun u u0 u1 => ?_, fun u u0 u1 => ?_⟩, fun i _ => ?_, fun k _ => Or.inl rfl⟩
  · have : v < (0 : Int) := v1
    omega
  · have : u < (0 : Int) := u1
    omega
  · have : u < (0 : Int) := u1
    omega
  · show iB 0 = 0
    decide
theorem tw_all.sf {S : tw_S} (h : tw_all S) (j : Nat) (x : Int) : tw_all (tw_sf S j x) := h.same (tw_same.sf S j x)
theorem tw_all.put {S : tw_S} {x : Int} (h : tw_all S) (hs : S.2.2 2 0 < 600) (hx : iB x = x) : tw_all (fd_put S x) := by
  have h0 := h.1.1
  have e1 : ∀ i, (fd_put S x).2.2 1 i = if i = Int.toNat (S.2.2 2 0) then x else S.2.2 1 i := by
    intro i
    unfold fd_put
    rw [tw_sa_ne _ _ _ (by decide), tw_sa_at]
  refine h.tape (by rw [fd_put_size]; omega) (fun q q1 q2 => ?_) (fun i hi => ?_) (fun i hi => ?_) (fun i hi => ?_)
  · unfold fd_put
    rw [tw_sa_ne _ _ _ q2, tw_sa_ne _ _ _ q1]
  · unfold fd_put
    rw [tw_sa_at, tw_sa_ne _ _ _ (by decide)]
    exact if_neg hi
  · rw [e1, if_neg (by omega)]
  · rw [e1]
    split
    · exact hx
    · exact h.2.1 i (by omega)
theorem tw_all.four {S : tw_S} {v : Int} (h : tw_all S) (hs : S.2.2 2 0 ≤ 596) : tw_all (fd_four S v) := by
  have hb : ∀ k, iB (fd_byte v k) = fd_byte v k := fun k => iB_iB _
  have h1 := h.put (by omega) (hb 24)
  have h2 := h1.put (by rw [fd_put_size]; omega) (hb 16)
  have h3 := h2.put (by rw [fd_put_size, fd_put_size]; omega) (hb 8)
  exact h3.put (by rw [fd_put_size, fd_put_size, fd_put_size]; omega) (hb 0)
theorem tw_all.feed {S : tw_S} {a b c g f : Int} (h : tw_all S) (hs : S.2.2 2 0 + 20 ≤ 600) : tw_all (fd_four (fd_four (fd_four (fd_four (fd_four (tw_sf S 0 0) a) b) c) g) f) := by
  have e0 : (tw_sf S 0 0).2.2 2 0 = S.2.2 2 0 := rfl
  have h1 := (h.sf 0 0).four (v := a) (by rw [e0]; omega)
  have h2 := h1.four (v := b) (by rw [fd_four_size, e0]; omega)
  have h3 := h2.four (v := c) (by rw [fd_four_size, fd_four_size, e0]; omega)
  have h4 := h3.four (v := g) (by rw [fd_four_size, fd_four_size, fd_four_size, e0]; omega)
  exact h4.four (v := f) (by rw [fd_four_size, fd_four_size, fd_four_size, fd_four_size, e0]; omega)
theorem tw_all.end {S : tw_S} {n : Int} (h : tw_all S) (hn : 0 ≤ n ∧ n ≤ S.2.2 2 0) : tw_all (tw_sa (tw_sf S 0 0) 2 0 n) := by
  have h0 := h.1.1
  refine (h.sf 0 0).tape ?_ (fun q q1 q2 => tw_sa_ne _ _ _ q2) (fun i hi => ?_) (fun i hi => ?_) (fun i hi => ?_)
  · rw [tw_sa_at]
    show 0 ≤ n ∧ n ≤ 600
    omega
  · rw [tw_sa_at]
    exact if_neg hi
  · rw [tw_sa_ne _ _ _ (by decide)]
  · rw [tw_sa_ne _ _ _ (by decide)]
    exact h.2.1 i (by omega)
