set_option maxRecDepth 100000
/-! the component: the nth of the ranked -/
section
variable {E : pw_E} {d : Nat} {u : pw_W} {A : Nat → Nat} {B : Nat → Int} {Z : Nat → Bool} {r : Nat → Nat} {n q c : Nat} {ar : Nat} {mc : Int32}
theorem rk_nth_ok {i : Nat} {K : Int32 → pw_W → Prop} (hd : 10 ≤ d) (hw : wf E u) (hq : c_pq u.1 q ar c A (pq_b r n) n mc) (hbq : pw_base E ≤ q) (hba : pw_base E ≤ ar) (hit : pq_it u.1 A B Z n) (hr : r_ok B Z r n) (hg : pq_good r n = true) (hi : i ≤ 1000)
    (H : ∀ (u' : pw_W) (x : Int), cx E u u' (fun a => a = q ∨ a = ar) 0 → (n ≤ i ∧ x = -1 ∨ ∃ j : Nat, x = j ∧ j < n ∧ r j = i) → K (iI x) u') : pw_Cl E m_X0_nthRanked d [va_rf (some q), .int (iI (i : Nat))] u (c_i K) := by
  replace hd := pw_d1 hd; obtain ⟨e, rfl, hd⟩ := hd
  have hn := hr.1
  obtain ⟨n1, n2, n3⟩ := hq.ne
  obtain ⟨e1, rfl, hd1⟩ := pw_d1 (show 0 + 1 ≤ e by omega)
  refine e_X0_nthRanked _ _ (s_X0_nthRanked_0 _ _ ⟨q, _, rfl, hq.1, e_J31_size _ (s_J31_size_0 _ ⟨q, _, _, rfl, hq.1, rfl, ⟨_, rfl, ?_⟩⟩)⟩)
  have hbd := (Bool.and_eq_true _ _).mp hg
  have good : ∀ k, k < n → pq_in (pq_p r n k) (n - k) n ∧ r ((pq_p r n k 0).getD 0) = k := by
    intro k hk
    have := (Bool.and_eq_true _ _).mp (List.all_eq_true.mp hbd.2 k (List.mem_range.mpr hk))
    exact ⟨pq_has_in this.1, of_decide_eq_true this.2⟩
  by_cases z : i < n
  · refine ifT (by rw [iI_ltn (by omega) (by omega)]; exact z) ?_
    have key : ∀ (f k : Nat) (v : pw_W) (mc : Int32), k + f = i → cx E u v (fun a => a = q ∨ a = ar) 0 → c_pq v.1 q ar c A (pq_p r n k) (n - k) mc → pq_it v.1 A B Z n → pw_Wp E m_X0_nthRanked (e1 + 1 + 1) 12 [some (va_rf (some q)), some (.int (iI (i : Nat))), some (.int (iI (k : Nat)))] [] v (c_i K) := by
      intro f
      induction f with
      | zero =>
        intro k v mc hk c0 hqv hitv
        have : k = i := by omega
        subst this
        refine s_X0_nthRanked_12 _ _ _ (ifT (by rw [iI_len (by omega) (by omega)]; omega) ⟨q, _, rfl, hqv.1, pq_poll_ok (by omega) c0.ok hqv hbq hba hitv hr (by omega) (good k z).1 (fun u' mc' y hy hyn c1 e1 hq1 => ?_)⟩)
        have h15 := hitv.cx c1 (fun i hi t => by rcases t with t | t <;> first | exact hitv.nq hqv.1 (by decide) i hi t | exact hitv.nq hqv.2.1 (by decide) i hi t) y hyn
        have hry := (good k z).2
        rw [hy] at hry
        exact ⟨Or.inr ⟨A y, 15, _, rfl, h15, c_canR⟩, A y, _, _, rfl, h15, rfl, ⟨_, rfl, H u' (y : Nat) ((c0.tr c1).le (by omega)) (Or.inr ⟨y, rfl, hyn, hry⟩)⟩⟩
      | succ f ih =>
        intro k v mc hk c0 hqv hitv
        refine s_X0_nthRanked_12 _ _ _ (ifF (by rw [iI_len (by omega) (by omega)]; omega) ⟨q, _, rfl, hqv.1, pq_poll_ok (by omega) c0.ok hqv hbq hba hitv hr (by omega) (good k (by omega)).1 (fun u' mc' y hy hyn c1 e1 hq1 => ?_)⟩)
        rw [iI_ad1]
        refine ih (k + 1) u' mc' (by omega) ((c0.tr c1).le (by omega)) ?_ (hitv.cx c1 (fun i hi t => by rcases t with t | t <;> first | exact hitv.nq hqv.1 (by decide) i hi t | exact hitv.nq hqv.2.1 (by decide) i hi t))
        rw [show n - (k + 1) = n - k - 1 by omega]
        exact hq1
    exact key i 0 u mc (by omega) (cx.refl hw) hq hit
  · exact ifF (by rw [iI_ltn (by omega) (by omega)]; exact z) ⟨_, rfl, H u (-1) (cx.refl hw) (Or.inl ⟨by omega, rfl⟩)⟩
end
