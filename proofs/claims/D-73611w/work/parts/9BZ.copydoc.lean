set_option maxRecDepth 100000
/-! the component: a document copied -/
section
variable {E : pw_E} {d : Nat} {w : pw_W} {b : Nat} {D : dc}
theorem cd_copy_ok {K : Option Nat → pw_W → Prop} (hd : 20 ≤ d) (hw : wf E w) (h : c_doc E w.1 w.1 b D) (hD : dc_ok D) (h10 : D.1.length ≤ 10)
    (H : ∀ (u : pw_W) (x : dX) (cc : Nat), cx E w u c_no cc → cc ≤ 8 * x.2.1.2.2.1 + 6 * D.2.1.length + 120 → c_dX E u.1 w.2.1 D (dc_set D.1) x → (∀ q, d_F x q → w.2.1 ≤ q) → K (some w.2.1) u) : pw_Cl E m_X7_copy d [va_rf (some b)] w (c_r K) := by
  replace hd := pw_d1 hd; obtain ⟨e, rfl, hd⟩ := hd
  have hbw := hw.b
  obtain ⟨y, hy⟩ := h.X
  obtain ⟨k1, k2, k3, k4, ⟨k5, k6⟩, ⟨k7, k8⟩, ⟨k9, k10⟩, -⟩ := hy
  have hDl := hD.2.1
  have hDt := hD.2.2.2.1
  refine e_X7_copy _ (s_X7_copy_0 _ ?_)
  show pw_Cl E m_X7_init e [va_rf (some w.2.1)] (pw_new w (6, [va_rf none, va_rf none, va_rf none]) 3) _
  have c1 : cx E w (pw_new w (6, [va_rf none, va_rf none, va_rf none]) 3) c_no 7 := cx.new hw _ 3
  refine cd_new_ok (by omega) c1.ok (pw_new_1 _ _ _) hbw (fun w2 x c2 hx hF hx0 hx1 => ?_)
  have c12 : cx E w w2 c_no 67 := (cx.tn hw c1 c2 (fun q z => Or.inr (by have z : q = w.2.1 := z; omega))).le (by omega)
  have hF : ∀ q, d_F x q → w.2.1 + 1 ≤ q := hF
  refine ⟨b, _, _, rfl, c12.at k1, rfl, y.2.1.1, _, rfl, c12.at k3.1, cl_iterator_ok (by omega) c12.ok (k3.mono c12.sub1) (fun w3 c3 n3 i3 => ?_)⟩
  have c13 := c12.tr c3
  have n3 : w3.2.1 = w2.2.1 + 1 := n3
  have nw2 : w.2.1 ≤ w2.2.1 := c12.le1
  obtain ⟨t1, hA⟩ : ∃ m : Nat, m = w2.2.1 := ⟨_, rfl⟩
  rw [← hA] at i3 n3 nw2 ⊢
  have hx3 : c_dX E w3.1 w.2.1 ([], D.2.1.take 0, []) (dc_set D.1) x := (hx _).keep c3 (fun _ _ z => z) (fun _ _ _ z => z.elim)
  have hF3 : ∀ q, d_F x q → w.2.1 ≤ q ∧ q ≠ t1 := fun q hq => by
    have h1 := hF q hq
    have h2 := dX_lt c12.ok (hx (fun _ => 0)) hq
    exact ⟨by omega, by omega⟩
  have key : ∀ (f k : Nat) (u : pw_W) (x' : dX) (cc : Nat), k + f = D.2.1.length → cx E w u c_no cc → cc ≤ 8 * x'.2.1.2.2.1 + 6 * k + 75 → c_dX E u.1 w.2.1 ([], D.2.1.take k, []) (dc_set D.1) x' → (∀ q, d_F x' q → w.2.1 ≤ q ∧ q ≠ t1) → (x'.1.2.2.1 = 10 ∧ x'.2.2.1.2.2.1 = 10) → c_it u.1 t1 k y.2.1.2.2.2 y.2.1.1 → t1 < u.2.1 → pw_Wp E m_X7_copy (e + 1) 16 [some (va_rf (some b)), some (va_rf (some w.2.1)), some (va_rf (some t1)), none, none] [] u (c_r K) := by
    intro f
    induction f with
    | zero =>
      intro k u x' cc hk cu hcc hku hFu hcap it hu
      refine s_X7_copy_16 _ _ _ (cl_step (by omega) it (by omega) (k3.mono cu.sub1) (by simp; omega) (fun _ => ?_) (fun z o hz => ?_))
      · have hks : k = D.2.1.length := by omega
        subst hks
        rw [List.take_length] at hku
        have hku0 := hku
        obtain ⟨⟨lv, bv, cv, mv⟩, ⟨lt, bt, ct, mt⟩, ⟨ld, bd, cd, md⟩, rs, ts, ds⟩ := x'
        obtain ⟨q1, q2, q3, q4, ⟨q5, q6⟩, ⟨q7, q8⟩, ⟨q9, q10⟩, ⟨b1, b2, b3, n1, n2, n3, n4, n5, n6⟩, p1, p2, p3⟩ := hku0
        dsimp only at q1 q2 q3 q4 q5 q6 q7 q8 q9 q10 b2 b3 n1 n2 n3 n4 n5 n6 p1 p2 p3 hcap hcc
        have hrs : rs = [] := List.eq_nil_of_length_eq_zero q5
        have hds : ds = [] := List.eq_nil_of_length_eq_zero q9
        subst hrs
        subst hds
        obtain ⟨rfl, rfl⟩ := hcap
        obtain ⟨v2, -, B2, -⟩ := c_al.use cu.ok q2
        obtain ⟨v3, -, B3, -⟩ := c_al.use cu.ok q3
        obtain ⟨v4, -, B4, -⟩ := c_al.use cu.ok q4
        have A2 := q2.1
        have A3 := q3.1
        have A4 := q4.1
        dsimp only at A2 A3 A4 B2 B3 B4
        have nek : ∀ (p q kp kq : Nat) (us vs : List Value), u.1 p = some (kp, us) → u.1 q = some (kq, vs) → kp ≠ kq → p ≠ q := by
          rintro p q kp kq us vs h1 h2 h3 rfl
          rw [h1] at h2
          cases h2
          exact h3 rfl
        have olv := (hFu lv (Or.inl rfl)).1
        have obv := (hFu bv (Or.inr (Or.inl ⟨rfl, (by decide : 0 < 10)⟩))).1
        have old := (hFu ld (Or.inr (Or.inr (Or.inr (Or.inr (Or.inl rfl)))))).1
        have obd := (hFu bd (Or.inr (Or.inr (Or.inr (Or.inr (Or.inr (Or.inl ⟨rfl, (by decide : 0 < 10)⟩))))))).1
        have hlr : (y.2.2.2.1.map some).length = D.1.length := by rw [List.length_map, k5]
        have hlds : (y.2.2.2.2.2.map some).length = D.2.2.length := by rw [List.length_map, k9]
        refine ⟨w.2.1, _, _, rfl, q1, rfl, b, _, _, rfl, cu.at k1, rfl, lv, _, rfl, A2, cl_addAll_ok (by omega) cu.ok q2 (c_al.mono k2 cu.sub1) (by rw [hlr]; show 0 + _ ≤ 10; omega) (fun z hz => ?_) (fun u1 c1' h1 => ?_)⟩
        · obtain ⟨r, hr, rfl⟩ := List.mem_map.mp hz
          obtain ⟨v, hv⟩ := List.getElem?_of_mem hr
          obtain ⟨row, hrow⟩ := dc_get (l := D.1) (i := v) (by have := (List.getElem?_eq_some_iff.mp hv).1; omega)
          exact Or.inr ⟨r, 1000, _, rfl, cu.at (k6 v r row hv hrow), c_canIO⟩
        dsimp only at c1' h1
        rw [hlr] at c1'
        have fx1 : ∀ (q k : Nat) (us : List Value), u.1 q = some (k, us) → k ≠ 18 → k ≠ 1003 → u1.1 q = some (k, us) := fun q k us hq hk1 hk2 => c1'.keep hq (fun z => z.elim (fun z => nek _ _ _ _ _ _ hq A2 hk1 z) (fun z => nek _ _ _ _ _ _ hq B2 hk2 z.1))
        have cw1 : cx E w u1 c_no (cc + (D.1.length + 4)) := cx.tn hw cu c1' (fun q z => Or.inr (z.elim (fun z => by omega) (fun z => by have := z.1; omega)))
        have q41 : c_lX E u1.1 (ld, bd, 10, md) [] := c_lX.keep q4 c1' (fun z => z.elim (fun z => n2 z.symm) (fun z => nek _ _ _ _ _ _ A4 B2 (by decide) z.1)) (fun _ z => z.elim (fun z => nek _ _ _ _ _ _ B4 A2 (by decide) z) (fun z => n5 z.1.symm))
        have q31 : c_lX E u1.1 (lt, bt, ct, mt) ts := c_lX.keep q3 c1' (fun z => z.elim (fun z => n1 z.symm) (fun z => nek _ _ _ _ _ _ A3 B2 (by decide) z.1)) (fun _ z => z.elim (fun z => nek _ _ _ _ _ _ B3 A2 (by decide) z) (fun z => n4 z.1.symm))
        have A41 := q41.1
        dsimp only at A41
        refine ⟨w.2.1, _, _, rfl, fx1 _ _ _ q1 (by decide) (by decide), rfl, b, _, _, rfl, cw1.at k1, rfl, ld, _, rfl, A41, cl_addAll_ok (by omega) cw1.ok q41 (c_al.mono k4 cw1.sub1) (by rw [hlds]; show 0 + _ ≤ 10; omega) (fun z hz => ?_) (fun u2 c2' h2 => ⟨_, rfl, ?_⟩)⟩
        · obtain ⟨r, hr, rfl⟩ := List.mem_map.mp hz
          obtain ⟨v, hv⟩ := List.getElem?_of_mem hr
          obtain ⟨date, hdt⟩ := dc_get (l := D.2.2) (i := v) (by have := (List.getElem?_eq_some_iff.mp hv).1; omega)
          exact Or.inr ⟨r, 28, _, rfl, cw1.at (k10 v r date hv hdt), c_canNO⟩
        dsimp only at c2' h2
        rw [hlds] at c2'
        obtain ⟨v44, -, B44, -⟩ := c_al.use cw1.ok q41
        dsimp only at B44
        have nek4 : ∀ (p q kp kq : Nat) (us vs : List Value), u1.1 p = some (kp, us) → u1.1 q = some (kq, vs) → kp ≠ kq → p ≠ q := by
          rintro p q kp kq us vs h1 h2 h3 rfl
          rw [h1] at h2
          cases h2
          exact h3 rfl
        have fx2 : ∀ (q k : Nat) (us : List Value), u1.1 q = some (k, us) → k ≠ 18 → k ≠ 1003 → u2.1 q = some (k, us) := fun q k us hq hk1 hk2 => c2'.keep hq (fun z => z.elim (fun z => nek4 _ _ _ _ _ _ hq A41 hk1 z) (fun z => nek4 _ _ _ _ _ _ hq B44 hk2 z.1))
        have fx : ∀ (q k : Nat) (us : List Value), u.1 q = some (k, us) → k ≠ 18 → k ≠ 1003 → u2.1 q = some (k, us) := fun q k us hq hk1 hk2 => fx2 _ _ _ (fx1 _ _ _ hq hk1 hk2) hk1 hk2
        have cw2 : cx E w u2 c_no (cc + (D.1.length + 4) + (D.2.2.length + 4)) := cx.tn hw cw1 c2' (fun q z => Or.inr (z.elim (fun z => by omega) (fun z => by have := z.1; omega)))
        have h12 : c_lX E u2.1 (lv, bv, 10, mv + 1) y.2.2.2.1 := by
          have h1' : c_lX E u1.1 (lv, bv, 10, mv + 1) y.2.2.2.1 := h1
          obtain ⟨v34, -, B34, -⟩ := c_al.use cw1.ok h1'
          have A34 := h1'.1
          dsimp only at A34 B34
          exact h1'.keep c2' (fun z => z.elim (fun z => n2 z) (fun z => nek4 _ _ _ _ _ _ A34 B44 (by decide) z.1)) (fun _ z => z.elim (fun z => nek4 _ _ _ _ _ _ B34 A41 (by decide) z) (fun z => n5 z.1))
        have h32 : c_lX E u2.1 (lt, bt, ct, mt) ts := by
          obtain ⟨v34, -, B34, -⟩ := c_al.use cw1.ok q31
          have A34 := q31.1
          dsimp only at A34 B34
          exact q31.keep c2' (fun z => z.elim (fun z => n3 z) (fun z => nek4 _ _ _ _ _ _ A34 B44 (by decide) z.1)) (fun _ z => z.elim (fun z => nek4 _ _ _ _ _ _ B34 A41 (by decide) z) (fun z => n6 z.1))
        refine H u2 ((lv, bv, 10, mv + 1), (lt, bt, ct, mt), (ld, bd, 10, md + 1), y.2.2.2.1, ts, y.2.2.2.2.2) _ cw2 (by show _ ≤ 8 * ct + 6 * D.2.1.length + 120; omega) ⟨fx _ _ _ q1 (by decide) (by decide), h12, h32, h2, ⟨k5, fun v r row g1 g2 => cw2.at (k6 v r row g1 g2)⟩, ⟨q7, fun j t s g1 g2 => ?_⟩, ⟨k9, fun i b' z g1 g2 => cw2.at (k10 i b' z g1 g2)⟩, ⟨b1, b2, b3, n1, n2, n3, n4, n5, n6⟩, ?_, p2, ?_⟩ (fun q hq => (hFu q hq).1)
        · obtain ⟨c, t1', b', y2, y3, t3, t4, t5⟩ := q8 j t s g1 g2
          exact ⟨c, fx _ _ _ t1' (by decide) (by decide), b', y2, y3, fx _ _ _ t3 (by decide) (by decide), fx _ _ _ t4 (by decide) (by decide), t5⟩
        · show 2 * 10 ≤ _
          omega
        · show 2 * 10 ≤ _
          omega
      · have := (List.getElem?_eq_some_iff.mp hz).1
        rw [List.length_map] at this
        omega
    | succ f ih =>
      intro k u x' cc hk cu hcc hku hFu hcap it hu
      refine s_X7_copy_16 _ _ _ (cl_step (by omega) it (by omega) (k3.mono cu.sub1) (by simp; omega) (fun q => by simp at q; omega) (fun z o hz hi ho => ?_))
      obtain ⟨t, ht⟩ := dc_get (l := y.2.2.2.2.1) (i := k) (by omega)
      obtain ⟨s, hs⟩ := dc_get (l := D.2.1) (i := k) (by omega)
      rw [List.getElem?_map, ht] at hz
      cases hz
      obtain ⟨c, hc1, hc2⟩ := k8 k t s ht hs
      obtain ⟨ll, hit⟩ := it
      have c2' : cx E u (pw_up u t1 o) (fun q => q = t1) 0 := cx.up cu.ok o hit (by omega) rfl
      have cw2 : cx E w (pw_up u t1 o) c_no cc := (cx.tn hw cu c2' (fun q z => Or.inr (by have z : q = t1 := z; omega))).le (by omega)
      have hku2 := hku.keep c2' (fun q hq z => (hFu q hq).2 z) (fun q o' hq z => by
        have z : q = t1 := z
        subst z
        rw [hit] at hq
        cases hq
        exact ⟨(by decide : (19 : Nat) ≠ 6), (by decide : (19 : Nat) ≠ 1000), (by decide : (19 : Nat) ≠ 21), (by decide : (19 : Nat) ≠ 1001), (by decide : (19 : Nat) ≠ 28)⟩)
      have nu : (pw_up u t1 o).2.1 = u.2.1 := rfl
      have hct := cw2.at hc1
      generalize pw_up u t1 o = v at c2' cw2 hku2 hi nu hct ⊢
      refine ⟨Or.inr ⟨t, 7, _, rfl, hct, c_canT⟩, ?_⟩
      have c3' : cx E v (pw_new v (7, [va_rf none, .int 0]) 2) c_no 6 := cx.new cw2.ok _ 2
      have ht3 : (pw_new v (7, [va_rf none, .int 0]) 2).1 v.2.1 = some (7, [va_rf none, .int 0]) := pw_new_1 _ _ _
      have hbv : pw_base E ≤ v.2.1 := cw2.ok.b
      have htl := cw2.ok.lt hct
      obtain ⟨e1, rfl, hd1⟩ := pw_d1 (show 0 + 1 ≤ e by omega)
      refine ⟨t, _, _, rfl, c3'.at hct, rfl, e_X8_init _ _ (s_X8_init_0 _ _ ⟨v.2.1, _, rfl, ht3, hbv, ⟨rfl, ?_⟩⟩)⟩
      have c4 : cx E (pw_new v (7, [va_rf none, .int 0]) 2) (pw_up (pw_new v (7, [va_rf none, .int 0]) 2) v.2.1 (7, [va_rf (some c), .int 0])) (fun q => q = v.2.1) 0 := cx.up c3'.ok _ ht3 hbv rfl
      have ht4 : (pw_up (pw_new v (7, [va_rf none, .int 0]) 2) v.2.1 (7, [va_rf (some c), .int 0])).1 v.2.1 = some (7, [va_rf (some c), .int 0]) := pw_up_1 _ _ _
      have c5 : cx E _ (pw_up (pw_up (pw_new v (7, [va_rf none, .int 0]) 2) v.2.1 (7, [va_rf (some c), .int 0])) v.2.1 (7, [va_rf (some c), .int (iI (dc_set D.1 k))])) (fun q => q = v.2.1) 0 := cx.up c4.ok _ ht4 hbv rfl
      have c35 : cx E v (pw_up (pw_up (pw_new v (7, [va_rf none, .int 0]) 2) v.2.1 (7, [va_rf (some c), .int 0])) v.2.1 (7, [va_rf (some c), .int (iI (dc_set D.1 k))])) c_no 6 := (cx.tn cw2.ok (cx.tn cw2.ok c3' c4 (fun q z => Or.inr (by have z : q = v.2.1 := z; omega))) c5 (fun q z => Or.inr (by have z : q = v.2.1 := z; omega))).le (by omega)
      have hlk : (D.2.1.take k).length = k := by rw [List.length_take]; omega
      have hk5 := hku2.keep c35 (fun _ _ z => z) (fun _ _ _ z => z.elim)
      have hnt : v.2.1 ∉ x'.2.2.2.2.1 := by
        intro hm
        have := dX_lt cu.ok hku (Or.inr (Or.inr (Or.inr (Or.inr (Or.inr (Or.inr hm))))))
        omega
      refine ⟨t, _, _, rfl, by rw [pw_up_ne (by omega)]; exact c3'.at hct, rfl, v.2.1, _, rfl, ht4, hbv, w.2.1, _, _, rfl, hk5.1, rfl, ?_⟩
      refine cd_addtok (D := ([], D.2.1.take k, [])) (t := v.2.1) (c := c) (s := s) (by omega) c35.ok hk5 (by rw [show (([] : List (List Nat)), D.2.1.take k, ([] : List Int)).2.1.length = k from hlk]; exact pw_up_1 _ _ _) (hc2.mono (cw2.sub1.trans c35.sub1)) hbv hnt (by show (D.2.1.take k).length ≤ 1000; omega) (fun u6 x6 cc6 c6 hc6 hk6 he6 hF6 ht6 hsame => ?_)
      have own : ∀ q, (q = x'.2.1.1 ∨ (q = x'.2.1.2.1 ∧ 0 < x'.2.1.2.2.1)) → d_F x' q := fun q z => z.elim (fun z => Or.inr (Or.inr (Or.inl z))) (fun z => Or.inr (Or.inr (Or.inr (Or.inl z))))
      have cw6 : cx E w u6 c_no (cc + 6 + cc6) := cx.tn hw (cw2.tr c35) c6 (fun q z => Or.inr (hFu q (own q z)).1)
      have nle : v.2.1 + 1 ≤ u6.2.1 := c6.le1
      refine ih (k + 1) u6 x6 (cc + 6 + cc6) (by omega) cw6 (by omega) (by rw [take_s hs]; exact hk6) (fun q hq => ?_) (by rw [hsame.1, hsame.2]; exact hcap) ?_ (by omega)
      · rcases hF6 q hq with z | z | z
        · exact hFu q z
        · have z : v.2.1 + 1 ≤ q := z
          exact ⟨by omega, by omega⟩
        · exact ⟨by omega, by omega⟩
      · obtain ⟨l, hl'⟩ := hi
        exact ⟨l, c6.keep (c35.at hl') (fun z => (hFu _ (own _ z)).2 rfl)⟩
  exact key D.2.1.length 0 w3 x 75 (by omega) c13 (by omega) hx3 hF3 hx1 i3 (by omega)
end
