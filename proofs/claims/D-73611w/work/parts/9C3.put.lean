set_option maxRecDepth 100000
/-! the component: a put drawn -/
section
variable {E : pw_E} {d : Nat} {w : pw_W} {a dr : Nat} {D : dc} {x : dX}
theorem c_dX.size {K : Int32 → pw_W → Prop} (hd : 5 ≤ d) (k : c_dX E w.1 a D (dc_set D.1) x) (hD : dc_ok D) (h1 : 1 ≤ D.1.length) (H : K (iI (dc_last D)) w) : f_V E w (some a) 6 m_X7_size d [] (c_i K) := by
  obtain ⟨row, hr⟩ := dc_get (l := D.1) (i := D.1.length - 1) (by omega)
  refine ⟨a, _, rfl, k.1, cd_size_ok (by omega) k.doc hD hr ?_⟩
  unfold dc_last dc_len dc_row at H
  rw [dc_getD hr] at H
  exact H
end
section
variable {E : pw_E} {d : Nat} {w : pw_W} {a dr : Nat} {D : dc} {x : dX}
theorem dr_putE_ok {place : Nat} {s0 : List Int} {K : Option Nat → pw_W → Prop} (hd : 70 ≤ d) (hw : wf E w) (hk : c_dX E w.1 a D (dc_set D.1) x) (hD : dc_ok D) (h1 : 1 ≤ D.1.length) (hs0 : D.2.1[0]? = some s0) (hl : D.2.1.length + 1 ≤ 1000)
    (Hn : dc_last D = 20 ∨ D.1.length = 10 → K none w)
    (Hs : dc_last D ≠ 20 → D.1.length ≠ 10 → ∀ (u : pw_W) (x' : dX) (o cc : Nat), cx E w u (d_F x) cc → cc + 8 * x.2.1.2.2.1 ≤ 8 * x'.2.1.2.2.1 + 60 → c_dX E u.1 a (D.1, D.2.1 ++ [s0], D.2.2) (dc_set D.1) x' → (∀ q, d_F x' q → d_F x q ∨ w.2.1 ≤ q) → w.2.1 ≤ o → u.1 o = some (2000, [.int (iI (place : Nat)), .int (iI D.2.1.length), .int (iI ((1 : Nat) : Int))]) → K (some o) u) : pw_Cl E m_X18_put d [va_rf (some dr), va_rf (some a), .int (iI (place : Nat))] w (c_r K) := by
  replace hd := pw_d1 hd; obtain ⟨e, rfl, hd⟩ := hd
  have hll := dc_last_le hD h1
  have hDl := hD.2.2.1
  have hbw := hw.b
  have m1 : (iI (dc_last D) = 20) = (dc_last D = 20) := iI_eqn (b := 20) (by omega) (by omega)
  have m2 : (iI (D.1.length : Nat) = 10) = (D.1.length = 10) := iI_eqn (b := 10) (by omega) (by omega)
  refine e_X18_put _ _ _ (s_X18_put_0 _ _ _ (hk.size (by omega) hD h1 ?_))
  by_cases z1 : dc_last D = 20
  · exact ifT (by rw [m1]; exact z1) ⟨_, rfl, Hn (Or.inl z1)⟩
  refine ifF (by rw [m1]; exact z1) (hk.many (by omega) ?_)
  by_cases z2 : D.1.length = 10
  · exact ifT (by rw [m2]; exact z2) ⟨_, rfl, Hn (Or.inr z2)⟩
  refine ifF (by rw [m2]; exact z2) ?_
  have c1 : cx E w (pw_new w (18, [.int 0, va_rf none, .int 0]) 3) c_no 7 := cx.new hw _ 3
  show pw_Cl E m_J2_init e [va_rf (some w.2.1), .int (iI ((1 : Nat) : Int))] (pw_new w (18, [.int 0, va_rf none, .int 0]) 3) _
  refine cl_init_ok (by omega) c1.ok (pw_new_1 _ _ _) hbw (by decide) (fun w2 c2 n2 l2 => ?_)
  have l2 : c_lX E w2.1 (w.2.1, w.2.1 + 1, 1, 0) [] := l2
  have c12 : cx E w w2 c_no 12 := (cx.tn hw c1 c2 (fun q z => Or.inr (by have z : q = w.2.1 := z; omega))).le (by omega)
  have hk2 := hk.keep c12 (fun _ _ z => z) (fun _ _ _ z => z.elim)
  have hk20 := hk2
  obtain ⟨k1, k2, k3, k4, ⟨k5, k6⟩, ⟨k7, k8⟩, -⟩ := hk20
  obtain ⟨t, ht⟩ := dc_get (l := x.2.2.2.2.1) (i := 0) (by have := (List.getElem?_eq_some_iff.mp hs0).1; omega)
  obtain ⟨c, hc1, hc2⟩ := k8 0 t s0 ht hs0
  have hc20 := hc2
  obtain ⟨sb, sv2, sv3, st1, st2⟩ := hc20
  refine ⟨a, _, _, rfl, k1, rfl, x.2.1.1, _, rfl, k3.1, cl_get_ok (i := 0) (x := some t) (by omega) k3 (by rw [List.getElem?_map, ht]; rfl) ⟨Or.inr ⟨t, 7, _, rfl, hc1, c_canT⟩, t, _, _, rfl, hc1, rfl, ?_⟩⟩
  refine lX_add_ok (l := (w.2.1, w.2.1 + 1, 1, 0)) (xs := []) (by omega) c12.ok l2 (by decide : 2 * 1 ≤ 3 * 0 + 20) (by decide) (fun z hz => ?_) (fun u l3 cc3 c3 cb3 _ h3 e3 o3 q3 => ?_)
  · rcases List.mem_cons.mp hz with rfl | hz
    · exact ⟨21, _, st1, c_canSO⟩
    · cases hz
  dsimp only at c3 e3 o3
  have hlt : ∀ q, d_F x q → q < w.2.1 := fun q h => dX_lt hw hk h
  have lk : ∀ (q : Nat) (o : pw_O), w2.1 q = some o → (q = w.2.1 ∨ (q = w.2.1 + 1 ∧ 0 < 1)) → o.1 = 18 ∨ o.1 = 1003 := by
    rintro q o hq (rfl | ⟨rfl, -⟩)
    · have := l2.1; dsimp only at this; rw [hq] at this; cases this; exact Or.inl rfl
    · obtain ⟨vs, -, hv, -⟩ := c_al.use c12.ok l2
      dsimp only at hv; rw [hq] at hv; cases hv; exact Or.inr rfl
  have hk3 := hk2.keep c3 (fun q hq z => by have := hlt q hq; rcases z with z | z <;> omega) (fun q o hq z => by
    have := lk q o hq z
    exact ⟨by omega, by omega, by omega, by omega, by omega⟩)
  have hstr : c_str u.1 c s0 := hc2.keep c3 (fun q o hq z => by have := lk q o hq z; exact ⟨by omega, by omega⟩)
  have cw3 : cx E w u c_no (12 + cc3) := cx.tn hw c12 c3 (fun q z => Or.inr (by rcases z with z | z <;> omega))
  have nle := c12.le1
  have ho3 : ∀ q, d_F x q → q ≠ l3.2.1 := fun q hq => by have := hlt q hq; rcases o3 with ⟨t1, -⟩ | ⟨t1, -⟩ <;> omega
  have h3' : c_al E u.1 w.2.1 l3.2.2.2 l3.2.1 l3.2.2.1 ([c].map some) := by rw [← e3]; exact h3
  refine ⟨a, _, rfl, hk3.1, cd_told_ok (SS := [s0]) (ws := [c]) (by omega) cw3.ok hk3 hD (by show D.2.1.length + 1 ≤ 1000; exact hl) h3' rfl (fun i c' s' g1 g2 => ?_) (fun hq => by have := hlt _ hq; omega) (fun _ hq => ho3 _ hq rfl) (fun u5 x5 o cc5 c5 hc5 hk5 hF5 ho5 hob => ⟨_, rfl, ?_⟩)⟩
  · cases i with
    | zero => cases g1; cases g2; exact hstr
    | succ i => simp at g1
  · have nle3 := cw3.le1
    have hc5 : cc5 + 8 * x.2.1.2.2.1 ≤ 8 * x5.2.1.2.2.1 + 15 + 6 * 1 := hc5
    have cb3 : cc3 ≤ 2 * 0 + 20 := cb3
    exact Hs z1 z2 u5 x5 o (12 + cc3 + cc5) (cw3.no.tr c5) (by omega) hk5 (fun q hq => (hF5 q hq).imp id (fun z => by omega)) (by omega) hob
end
