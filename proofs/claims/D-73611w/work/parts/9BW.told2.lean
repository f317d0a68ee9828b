set_option maxRecDepth 100000
/-! the component: an edit that puts words that are told -/
section
variable {E : pw_E} {d : Nat} {w w' : pw_W} {a : Nat} {D : dc} {X : Nat → Int} {x : dX}
theorem dc_set_none {R : List (List Nat)} {j : Nat} (h : ∀ row ∈ R, j ∉ row) : dc_set R j = 0 := by
  unfold dc_set
  refine upto_ind (Q := fun s => s = 0) rfl _ (fun k s hk hs => ?_)
  obtain ⟨row, hr⟩ := dc_get (l := R) (i := k) hk
  rw [dc_getD hr, if_neg (h row (List.mem_of_getElem? hr))]
  exact hs
theorem dX_lt {q : Nat} (hw : wf E w) (hk : c_dX E w.1 a D X x) (h : d_F x q) : q < w.2.1 := by
  obtain ⟨⟨lv, bv, cv, mv⟩, ⟨lt, bt, ct, mt⟩, ⟨ld, bd, cd, md⟩, rs, ts, ds⟩ := x
  obtain ⟨k1, k2, k3, k4, ⟨k5, k6⟩, ⟨k7, k8⟩, -⟩ := hk
  obtain ⟨v2, -, B2, -⟩ := c_al.use hw k2
  obtain ⟨v3, -, B3, -⟩ := c_al.use hw k3
  obtain ⟨v4, -, B4, -⟩ := c_al.use hw k4
  rcases h with z | ⟨z, zc⟩ | z | ⟨z, zc⟩ | z | ⟨z, zc⟩ | z
  · rw [z]; exact hw.lt k2.1
  · rw [z]; exact hw.lt B2
  · rw [z]; exact hw.lt k3.1
  · rw [z]; exact hw.lt B3
  · rw [z]; exact hw.lt k4.1
  · rw [z]; exact hw.lt B4
  · obtain ⟨j, hj⟩ := List.getElem?_of_mem z
    obtain ⟨s, hs⟩ := dc_get (l := D.2.1) (i := j) (by
      have := (List.getElem?_eq_some_iff.mp hj).1
      dsimp only at k7 this
      omega)
    obtain ⟨c, h1, -⟩ := k8 j q s hj hs
    exact hw.lt h1
theorem cd_told_ok {wl b cap : Nat} {mc : Int32} {ws : List Nat} {SS : List (List Int)} {place : Nat} {K : Option Nat → pw_W → Prop} (hd : 60 ≤ d) (hw : wf E w) (hk : c_dX E w.1 a D (dc_set D.1) x) (hD : dc_ok D) (hl : D.2.1.length + SS.length ≤ 1000) (hal : c_al E w.1 wl mc b cap (ws.map some)) (hwl : ws.length = SS.length) (hws : ∀ (i c : Nat) (s : List Int), ws[i]? = some c → SS[i]? = some s → c_str w.1 c s) (hF1 : ¬ d_F x wl) (hF2 : 0 < cap → ¬ d_F x b)
    (H : ∀ (u : pw_W) (x' : dX) (o cc : Nat), cx E w u (d_F x) cc → cc + 8 * x.2.1.2.2.1 ≤ 8 * x'.2.1.2.2.1 + 15 + 6 * SS.length → c_dX E u.1 a (D.1, D.2.1 ++ SS, D.2.2) (dc_set D.1) x' → (∀ q, d_F x' q → d_F x q ∨ w.2.1 ≤ q) → w.2.1 ≤ o → u.1 o = some (2000, [.int (iI (place : Nat)), .int (iI D.2.1.length), .int (iI SS.length)]) → K (some o) u) : pw_Cl E m_X7_told d [va_rf (some a), va_rf (some wl), .int (iI (place : Nat))] w (c_r K) := by
  replace hd := pw_d1 hd; obtain ⟨e, rfl, hd⟩ := hd
  have hk0 := hk
  obtain ⟨k1, k2, k3, k4, ⟨k5, k6⟩, ⟨k7, k8⟩, -⟩ := hk0
  refine e_X7_told _ _ _ (s_X7_told_0 _ _ _ ⟨a, _, _, rfl, k1, rfl, x.2.1.1, _, rfl, k3.1, cl_size_ok (by omega) k3 ?_⟩)
  refine ⟨wl, _, rfl, hal.1, cl_size_ok (by omega) hal ⟨wl, _, rfl, hal.1, cl_iterator_ok (by omega) hw hal (fun w1 c1 n1 i1 => ?_)⟩⟩
  rw [List.length_map, List.length_map, k7, hwl]
  have hlt : ∀ q, d_F x q → q < w.2.1 := fun q h => dX_lt hw hk h
  obtain ⟨vb, -, Bw, -⟩ := hal.use hw
  have lwl := hw.lt hal.1
  have lwb := hw.lt Bw
  have key : ∀ (f k : Nat) (u : pw_W) (x' : dX) (cc : Nat), k + f = SS.length → cx E w u (d_F x) cc → cc + 8 * x.2.1.2.2.1 ≤ 8 * x'.2.1.2.2.1 + 8 + 6 * k → c_dX E u.1 a (D.1, D.2.1 ++ SS.take k, D.2.2) (dc_set D.1) x' → (∀ q, d_F x' q → d_F x q ∨ w.2.1 ≤ q ∧ q ≠ w.2.1) → c_it u.1 w.2.1 k mc wl → w.2.1 < u.2.1 → pw_Wp E m_X7_told (e + 1) 20 [some (va_rf (some a)), none, some (.int (iI (place : Nat))), some (.int (iI D.2.1.length)), some (.int (iI SS.length)), some (va_rf (some w.2.1)), none] [] u (c_r K) := by
    intro f
    induction f with
    | zero =>
      intro k u x' cc hkk cu hcc hku hF it hu
      have hks : k = SS.length := by omega
      subst hks
      rw [List.take_length] at hku
      have halu : c_al E u.1 wl mc b cap (ws.map some) := hal.keep cu hF1 hF2
      refine s_X7_told_20 _ _ _ _ _ (cl_step (by omega) it hw.b halu (by simp; omega) (fun _ => ⟨by omega, ⟨_, rfl, ?_⟩⟩) (fun y o hy => ?_))
      · have c2 : cx E u (pw_new u (2000, [.int (iI (place : Nat)), .int (iI D.2.1.length), .int (iI SS.length)]) 3) c_no 7 := cx.new cu.ok _ 3
        exact H _ x' u.2.1 (cc + 7) (cu.tr c2.no) (by omega) (hku.keep c2 (fun _ _ z => z) (fun _ _ _ z => z.elim)) (fun q hq => (hF q hq).imp id (fun z => z.1)) cu.le1 (pw_new_1 _ _ _)
      · have := (List.getElem?_eq_some_iff.mp hy).1
        rw [List.length_map] at this
        omega
    | succ f ih =>
      intro k u x' cc hkk cu hcc hku hF it hu
      have halu : c_al E u.1 wl mc b cap (ws.map some) := hal.keep cu hF1 hF2
      refine s_X7_told_20 _ _ _ _ _ (cl_step (by omega) it hw.b halu (by simp; omega) (fun q => by simp at q; omega) (fun y o hy hi ho => ?_))
      obtain ⟨c, hc⟩ := dc_get (l := ws) (i := k) (by omega)
      obtain ⟨s, hs⟩ := dc_get (l := SS) (i := k) (by omega)
      rw [List.getElem?_map, hc] at hy
      cases hy
      obtain ⟨ll, hit⟩ := it
      have c2 : cx E u (pw_up u w.2.1 o) (fun q => q = w.2.1) 0 := cx.up cu.ok o hit hw.b rfl
      have nF : ∀ q, d_F x' q → ¬ q = w.2.1 := fun q hq z => by
        rcases hF q hq with t | t
        · have := hlt q t; omega
        · exact t.2 z
      have hku2 := hku.keep c2 nF (fun q o' hq z => by
        have z : q = w.2.1 := z
        subst z
        rw [hit] at hq
        cases hq
        exact ⟨(by decide : (19 : Nat) ≠ 6), (by decide : (19 : Nat) ≠ 1000), (by decide : (19 : Nat) ≠ 21), (by decide : (19 : Nat) ≠ 1001), (by decide : (19 : Nat) ≠ 28)⟩)
      have cw2 : cx E w (pw_up u w.2.1 o) (d_F x) cc := (cx.tn hw cu c2 (fun q z => Or.inr (by have z : q = w.2.1 := z; omega))).le (by omega)
      have hku20 := hku2
      obtain ⟨q1, q2, q3, q4, ⟨q5, q6⟩, ⟨q7, q8⟩, ⟨q9, q10⟩, ⟨r1, r2, r3, r4⟩, r5⟩ := hku20
      have hkind : ∀ (q : Nat) (o' : pw_O), w.1 q = some o' → d_F x q → o'.1 ≠ 21 ∧ o'.1 ≠ 1001 := by
        intro q o' hq hF'
        obtain ⟨v2, -, B2, -⟩ := c_al.use hw k2
        obtain ⟨v3, -, B3, -⟩ := c_al.use hw k3
        obtain ⟨v4, -, B4, -⟩ := c_al.use hw k4
        have fin : ∀ (k : Nat) (us : List Value), w.1 q = some (k, us) → k ≠ 21 ∧ k ≠ 1001 → o'.1 ≠ 21 ∧ o'.1 ≠ 1001 := by
          intro k us h1 h2
          rw [hq] at h1
          cases h1
          exact h2
        rcases hF' with z | ⟨z, zc⟩ | z | ⟨z, zc⟩ | z | ⟨z, zc⟩ | z
        · exact fin _ _ (by rw [z]; exact k2.1) (by decide)
        · exact fin _ _ (by rw [z]; exact B2) (by decide)
        · exact fin _ _ (by rw [z]; exact k3.1) (by decide)
        · exact fin _ _ (by rw [z]; exact B3) (by decide)
        · exact fin _ _ (by rw [z]; exact k4.1) (by decide)
        · exact fin _ _ (by rw [z]; exact B4) (by decide)
        · obtain ⟨j, hj⟩ := List.getElem?_of_mem z
          obtain ⟨s', hs'⟩ := dc_get (l := D.2.1) (i := j) (by
            have := (List.getElem?_eq_some_iff.mp hj).1
            omega)
          obtain ⟨c', h1, -⟩ := k8 j q s' hj hs'
          exact fin _ _ h1 (by decide)
      have hstr : c_str (pw_up u w.2.1 o).1 c s := (hws k c s hc hs).keep cw2 hkind
      have hstr0 := hstr
      obtain ⟨sb, sv2, sv3, st1, st2⟩ := hstr0
      refine ⟨Or.inr ⟨c, 21, _, rfl, st1, c_canS⟩, a, _, _, rfl, q1, rfl, ?_⟩
      have nu : (pw_up u w.2.1 o).2.1 = u.2.1 := rfl
      generalize pw_up u w.2.1 o = v at c2 hku2 cw2 hi q1 q2 q3 q4 q5 q6 q7 q8 q9 q10 hstr st1 st2 nu ⊢
      obtain ⟨e1, rfl, hd1⟩ := pw_d1 (show 0 + 1 ≤ e by omega)
      have c3 : cx E v (pw_new v (7, [va_rf none, .int 0]) 2) c_no 6 := cx.new c2.ok _ 2
      have ht3 : (pw_new v (7, [va_rf none, .int 0]) 2).1 v.2.1 = some (7, [va_rf none, .int 0]) := pw_new_1 _ _ _
      have hbv : pw_base E ≤ v.2.1 := c2.ok.b
      refine e_X8_init _ _ (s_X8_init_0 _ _ ⟨v.2.1, _, rfl, ht3, hbv, ⟨rfl, ?_⟩⟩)
      have c4 : cx E (pw_new v (7, [va_rf none, .int 0]) 2) (pw_up (pw_new v (7, [va_rf none, .int 0]) 2) v.2.1 (7, [va_rf (some c), .int 0])) (fun q => q = v.2.1) 0 := cx.up c3.ok _ ht3 hbv rfl
      have c34 : cx E v (pw_up (pw_new v (7, [va_rf none, .int 0]) 2) v.2.1 (7, [va_rf (some c), .int 0])) c_no 6 := (cx.tn c2.ok c3 c4 (fun q z => Or.inr (by have z : q = v.2.1 := z; omega))).le (by omega)
      have hset0 : dc_set D.1 (D.2.1 ++ SS.take k).length = 0 := dc_set_none (fun row hrow hm => by
        have := hD.1 row hrow _ hm
        rw [List.length_append] at this
        omega)
      have hnt : v.2.1 ∉ x'.2.2.2.2.1 := by
        intro hm
        have := dX_lt cu.ok hku (Or.inr (Or.inr (Or.inr (Or.inr (Or.inr (Or.inr hm))))))
        omega
      have hku4 := hku2.keep c34 (fun _ _ z => z) (fun _ _ _ z => z.elim)
      have hlt4 : (pw_up (pw_new v (7, [va_rf none, .int 0]) 2) v.2.1 (7, [va_rf (some c), .int 0])).1 v.2.1 = some (7, [va_rf (some c), .int (iI (dc_set D.1 (D.2.1 ++ SS.take k).length))]) := by
        rw [hset0]
        exact pw_up_1 _ _ _
      refine cd_addtok (D := (D.1, D.2.1 ++ SS.take k, D.2.2)) (by omega) c34.ok hku4 hlt4 (hstr.mono c34.sub1) hbv hnt (by rw [List.length_append, List.length_take]; omega) (fun u5 x5 cc5 c5 hc5 hk5 he5 hF5 ht5 _ => ?_)
      have cw5 : cx E w u5 (d_F x) (cc + 6 + cc5) := cx.tn hw (cw2.tr c34.no) c5 (fun q z => by
        have hq : d_F x' q := z.elim (fun z => Or.inr (Or.inr (Or.inl z))) (fun z => Or.inr (Or.inr (Or.inr (Or.inl z))))
        exact (hF q hq).imp id (fun z => z.1))
      have hit5 : c_it u5.1 w.2.1 (k + 1) mc wl := by
        obtain ⟨l, hl'⟩ := hi
        refine ⟨l, c5.keep (c34.at hl') (fun z => ?_)⟩
        have hq : d_F x' w.2.1 := z.elim (fun z => Or.inr (Or.inr (Or.inl z))) (fun z => Or.inr (Or.inr (Or.inr (Or.inl z))))
        exact nF _ hq rfl
      have nle : v.2.1 + 1 ≤ u5.2.1 := c5.le1
      refine ih (k + 1) u5 x5 (cc + 6 + cc5) (by omega) cw5 (by omega) ?_ (fun q hq => ?_) hit5 (by omega)
      · rw [take_s hs, ← List.append_assoc]
        exact hk5
      · rcases hF5 q hq with z | z | z
        · exact hF q z
        · have z : v.2.1 + 1 ≤ q := z
          exact Or.inr ⟨by omega, by omega⟩
        · exact Or.inr ⟨by omega, by omega⟩
  exact key SS.length 0 w1 x 8 (by omega) c1.no (by omega) (by rw [List.take_zero, List.append_nil]; exact hk.keep c1 (fun _ _ z => z) (fun _ _ _ z => z.elim)) (fun q hq => Or.inl hq) i1 (by omega)
end
