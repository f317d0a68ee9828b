set_option maxRecDepth 100000
/-! the component: the questions are made -/
section
variable {E : pw_E} {d : Nat} {u : pw_W} {Ds : List dc} {th a : Nat} {t : Int}
theorem ck_init_ok {z : pw_H} {x0 x1 : Value} {ql qb qcap : Nat} {qmc : Int32} {qas : List Nat} {Q : List qQ} {K : pw_W → Prop} (hd : 70 ≤ d) (hw : wf E u) (hz : c_sub z u.1) (hzt : z th = none) (hth : u.1 th = some (12, [x0, x1])) (hb : pw_base E ≤ th) (hA : c_arch E z z a Ds t) (hD : da_ok Ds) (hql : c_al E z ql qmc qb qcap (qas.map some)) (hqq : qas.length = Q.length) (hqn : Q.length ≤ 8) (hq : ∀ (i b : Nat) (q : qQ), qas[i]? = some b → Q[i]? = some q → c_q z b q) (hok : ∀ (i : Nat) (q : qQ), Q[i]? = some q → qok i q)
    (H : ∀ (u' : pw_W) (p : pw_H) (L : List kE) (al b : Nat) (mc : Int32), cx E u u' (fun q => q = th) 460 → c_sub z p → kS E p th a Ds t L → kI E p L u' → p th = some (12, [va_rf (some a), va_rf (some al)]) → c_al E p al mc b 8 (L.map (fun e => some e.1)) → kphi L = qphi Ds Q → L.length = Q.length → (∀ (q : Nat) (o : pw_O), u'.1 q = some o → ¬ k_F L q → p q = some o) → K u') : pw_Cl E m_X13_init d [va_rf (some th), va_rf (some a), va_rf (some ql)] u (c_v K) := by
  replace hd := pw_d1 hd; obtain ⟨e, rfl, hd⟩ := hd
  have hlt := hw.lt hth
  have hbb := hw.b
  have c1 : cx E u (pw_new u (18, [.int 0, va_rf none, .int 0]) 3) c_no 7 := cx.new hw _ 3
  refine e_X13_init _ _ _ (s_X13_init_0 _ _ _ ?_)
  show pw_Cl E m_J2_init e [va_rf (some u.2.1), .int (iI ((8 : Nat) : Int))] (pw_new u (18, [.int 0, va_rf none, .int 0]) 3) _
  refine cl_init_ok (by omega) c1.ok (pw_new_1 _ _ _) hbb (by decide) (fun w2 c2 n2 l2 => ?_)
  have n2 : w2.2.1 = u.2.1 + 2 := n2
  have l2 : c_al E w2.1 u.2.1 0 (u.2.1 + 1) 8 [] := l2
  have c12 : cx E u w2 c_no 19 := (cx.tn hw c1 c2 (fun q e => Or.inr (by have e : q = u.2.1 := e; omega))).le (by omega)
  have hth2 := c12.at hth
  have c3 : cx E w2 (pw_up w2 th (12, [x0, va_rf (some u.2.1)])) (fun q => q = th) 0 := cx.up c12.ok _ hth2 hb rfl
  have c4 : cx E (pw_up w2 th (12, [x0, va_rf (some u.2.1)])) (pw_up (pw_up w2 th (12, [x0, va_rf (some u.2.1)])) th (12, [va_rf (some a), va_rf (some u.2.1)])) (fun q => q = th) 0 := cx.up c3.ok _ (pw_up_1 _ _ _) hb rfl
  refine ⟨th, _, rfl, hth2, hb, ⟨th, _, rfl, pw_up_1 _ _ _, hb, ?_⟩⟩
  show f_V E (pw_up (pw_up w2 th (12, [x0, va_rf (some u.2.1)])) th (12, [va_rf (some a), va_rf (some u.2.1)])) (some ql) 18 m_J2_iterator e [] _
  have h10 : (pw_up (pw_up w2 th (12, [x0, va_rf (some u.2.1)])) th (12, [va_rf (some a), va_rf (some u.2.1)])).1 th = some (12, [va_rf (some a), va_rf (some u.2.1)]) := pw_up_1 _ _ _
  have n10 : (pw_up (pw_up w2 th (12, [x0, va_rf (some u.2.1)])) th (12, [va_rf (some a), va_rf (some u.2.1)])).2.1 = u.2.1 + 2 := n2
  have c10 : cx E u (pw_up (pw_up w2 th (12, [x0, va_rf (some u.2.1)])) th (12, [va_rf (some a), va_rf (some u.2.1)])) (fun q => q = th) 19 := ((c12.no.tr c3).tr c4).le (by omega)
  have l10 : c_al E (pw_up (pw_up w2 th (12, [x0, va_rf (some u.2.1)])) th (12, [va_rf (some a), va_rf (some u.2.1)])).1 u.2.1 0 (u.2.1 + 1) 8 [] := (l2.keep c3 (by omega) (fun _ => by omega)).keep c4 (by omega) (fun _ => by omega)
  generalize pw_up (pw_up w2 th (12, [x0, va_rf (some u.2.1)])) th (12, [va_rf (some a), va_rf (some u.2.1)]) = w10 at h10 n10 c10 l10 ⊢
  clear c3 c4 hth2 c12 l2 n2 c2 c1
  have hz10 : c_sub z w10.1 := c10.sub hz (fun q o hq e => by have e : q = th := e; subst e; rw [hzt] at hq; cases hq)
  have hql10 := hql.mono hz10
  refine ⟨ql, _, rfl, hql10.1, cl_iterator_ok (by omega) c10.ok hql10 (fun w11 c11 n11 i11 => ?_)⟩
  rw [n10] at n11 i11
  rw [n10]
  have key : ∀ (f k : Nat) (v : pw_W) (p : pw_H) (L : List kE) (mc : Int32), k + f = Q.length → L.length = k → kS E p th a Ds t L → kI E p L v → c_sub z p → p th = some (12, [va_rf (some a), va_rf (some u.2.1)]) → c_al E v.1 u.2.1 mc (u.2.1 + 1) 8 (L.map (fun e => some e.1)) → kphi L = qphi Ds (Q.take k) → cx E u v (fun q => q = th) (27 + 53 * k) → u.2.1 + 3 ≤ v.2.1 → c_it v.1 (u.2.1 + 2) k qmc ql → (∀ (q : Nat) (o : pw_O), p q = some o → ¬ (q = u.2.1 + 2 ∨ q = u.2.1 ∨ q = u.2.1 + 1)) → (∀ q : Nat, k_F L q → ¬ (q = u.2.1 + 2 ∨ q = u.2.1 ∨ q = u.2.1 + 1)) → pw_Wp E m_X13_init (e + 1) 27 [some (va_rf (some th)), none, none, some (va_rf (some (u.2.1 + 2))), none] [] v (c_v K) := by
    intro f
    induction f with
    | zero =>
      intro k v p L mc hk hL hS hI hzp hpt hal hphi c hv hit hpX hFX
      refine s_X13_init_27 _ _ (cl_step (by omega) hit (by omega) (hql.mono (hzp.trans hI.2.1)) (by simp; omega) (fun _ => ⟨rfl, ?_⟩) (fun x o hx hi ho => ?_))
      · obtain ⟨p', hp'⟩ := rs_ex v.1 (k_F L)
        have hs : c_sub p p' := fun q o hq => (hp' q o).mpr ⟨hI.2.1 q o hq, hS.1.no hq⟩
        have hnF : ∀ q, k_F L q → p' q = none := by
          intro q hq
          cases hz : p' q with
          | none => rfl
          | some x => exact absurd hq ((hp' q x).mp hz).2
        have hP : kP E p' L := by
          refine ⟨fun e he => ?_, hS.1.2⟩
          obtain ⟨b1, b2, m1, m2, m3⟩ := hS.1.1 e he
          exact ⟨b1, b2, hnF _ ⟨e, he, Or.inl rfl⟩, hnF _ ⟨e, he, Or.inr rfl⟩, hs _ _ m3⟩
        have hFn : ∀ q, k_F L q → q ≠ u.2.1 ∧ q ≠ u.2.1 + 1 := fun q hq => by have := hFX q hq; omega
        have hal' : c_al E p' u.2.1 mc (u.2.1 + 1) 8 (L.map (fun e => some e.1)) := by
          obtain ⟨x1, x2, x3, x4, x5⟩ := hal
          refine ⟨(hp' _ _).mpr ⟨x1, fun z => (hFn _ z).1 rfl⟩, x2, x3, x4, ?_⟩
          rcases x5 with x5 | ⟨x5, x6, vs, x7, x8⟩
          · omega
          · exact Or.inr ⟨x5, x6, vs, (hp' _ _).mpr ⟨x7, fun z => (hFn _ z).2 rfl⟩, x8⟩
        have hkQ : k = Q.length := by omega
        subst hkQ
        rw [List.take_length] at hphi
        exact H v p' L _ _ mc (c.le (by omega)) (hzp.trans hs) (hS.ext hs hP) ⟨hI.1, fun q o hq => ((hp' q o).mp hq).1, hI.2.2⟩ (hs _ _ hpt) hal' hphi (by omega) (fun q o g1 g2 => (hp' q o).mpr ⟨g1, g2⟩)
      · have := (List.getElem?_eq_some_iff.mp hx).1
        rw [List.length_map] at this
        omega
    | succ f ih =>
      intro k v p L mc hk hL hS hI hzp hpt hal hphi c hv hit hpX hFX
      refine s_X13_init_27 _ _ (cl_step (by omega) hit (by omega) (hql.mono (hzp.trans hI.2.1)) (by simp; omega) (fun y => by simp at y; omega) (fun x o hx hi ho => ?_))
      obtain ⟨b, hbk⟩ := dc_get (l := qas) (i := k) (by omega)
      obtain ⟨q, hqk⟩ := dc_get (l := Q) (i := k) (by omega)
      rw [List.getElem?_map, hbk] at hx
      cases hx
      have hcq := (hq k b q hbk hqk).mono hzp
      have hoq := hok k q hqk
      obtain ⟨ll, hit'⟩ := hit
      have c5 : cx E v (pw_up v (u.2.1 + 2) o) (fun q => q = u.2.1 + 2) 0 := cx.up hI.1 o hit' (by omega) rfl
      have hI5 := hI.cx c5 (fun q o hq e => hpX q o hq (Or.inl e)) (fun q hq e => hFX q hq (Or.inl e))
      have n5 : (pw_up v (u.2.1 + 2) o).2.1 = v.2.1 := rfl
      have l5 := hal.keep c5 (by omega) (fun _ => by omega)
      generalize pw_up v (u.2.1 + 2) o = v5 at c5 hI5 n5 l5 hi ⊢
      have c6 : cx E v5 (pw_new v5 (13, [va_rf none, va_rf none, va_rf none]) 3) c_no 7 := cx.new hI5.1 _ 3
      have hI6 := hI5.cx c6 (fun _ _ _ e => e) (fun _ _ e => e)
      have l6 := l5.mono c6.sub1
      have k6 : (pw_new v5 (13, [va_rf none, va_rf none, va_rf none]) 3).1 v.2.1 = some (13, [va_rf none, va_rf none, va_rf none]) := by rw [← n5]; exact pw_new_1 _ _ _
      have n6 : (pw_new v5 (13, [va_rf none, va_rf none, va_rf none]) 3).2.1 = v.2.1 + 1 := by rw [← n5]; rfl
      obtain ⟨ko, wb, y1, y2, y3⟩ := hcq
      refine ⟨Or.inr ⟨b, 10, _, rfl, hI5.2.1 _ _ y1, c_canQ⟩, th, _, _, rfl, hI5.2.1 _ _ hpt, rfl, ?_⟩
      show f_V E (pw_new v5 (13, [va_rf none, va_rf none, va_rf none]) 3) (some th) 12 m_X13_made e [va_rf (some b)] _
      rw [n5]
      generalize pw_new v5 (13, [va_rf none, va_rf none, va_rf none]) 3 = v6 at c6 hI6 l6 k6 n6 ⊢
      refine ⟨th, _, rfl, hI6.2.1 _ _ hpt, ck_made_ok (by omega) hD hS hI6 (hI6.2.1 _ _ hpt) l6 ⟨ko, wb, y1, y2, y3⟩ (by rw [hL]; exact hoq) (fun v7 o' c7 _ hm => ?_)⟩
      have hI7 := hI6.cx c7 (fun _ _ _ e => e) (fun _ _ e => e)
      have l7 := l6.mono c7.sub1
      have k7 := c7.at k6
      have n7 : v.2.1 + 1 ≤ v7.2.1 := by have := c7.le1; omega
      refine ck_keep_ok (by omega) hI7.1 k7 (by omega) (fun v8 c8 n8 k8 a1 a2 => ?_)
      have nk : ∀ q o, p q = some o → q < v.2.1 := fun q o hq => hI.1.lt (hI.2.1 q o hq)
      have hI8 := hI7.cx c8 (fun q o hq e => by have := nk q o hq; have e : q = v.2.1 := e; omega) (fun q hq e => by have := hI.lt hq; have e : q = v.2.1 := e; omega)
      have l8 := l7.keep c8 (by omega) (fun _ => by omega)
      have hxs : (L.map (fun e => some e.1)).length = k := by rw [List.length_map, hL]
      refine ⟨u.2.1, _, rfl, l8.1, cl_add_ok (x := some v.2.1) (by omega) c8.ok l8 ?_ (Or.inr ⟨_, 13, _, rfl, k8, c_canKO⟩) (by decide) (fun v9 b' cap' c9 hor l9 => ?_)⟩
      · intro x hx
        obtain ⟨e', he', rfl⟩ := List.mem_map.mp hx
        exact Or.inr ⟨_, 13, _, rfl, hI8.2.1 _ _ (hS.1.1 e' he').2.2.2.2, c_canKO⟩
      rw [hxs, if_neg (by omega)] at c9
      obtain ⟨rfl, rfl⟩ : b' = u.2.1 + 1 ∧ cap' = 8 := by
        rw [hxs] at hor
        rcases hor with ⟨-, h1, h2, -⟩ | ⟨h0, -⟩
        · exact ⟨h1, h2⟩
        · omega
      have hI9 := hI8.cx c9 (fun q o hq e => by have := hpX q o hq; rcases e with e | ⟨e, -⟩ <;> omega) (fun q hq e => by have := hFX q hq; rcases e with e | ⟨e, -⟩ <;> omega)
      have ne9 : ∀ q : Nat, v.2.1 ≤ q → ¬ (q = u.2.1 ∨ (q = u.2.1 + 1 ∧ k < 8)) := fun q hq => by omega
      have nl := hI7.1.lt k7
      obtain ⟨p', s1, s2, s3, s4⟩ := kS.add (φ := qst Ds q (kphi L)) (n0 := v.2.1) (n1 := v6.2.1) (kk := v.2.1) (r := v7.2.1) (o := o') (M := v7.1) (X := fun q => q = u.2.1 + 2 ∨ q = u.2.1 ∨ q = u.2.1 + 1) hD hS hI9 (fun q o hq => ⟨nk q o hq, hpX q o hq⟩) (fun q hq => hI.lt hq) (fun q hq => by have hq : q = u.2.1 + 2 ∨ q = u.2.1 ∨ q = u.2.1 + 1 := hq; omega) (Nat.le_refl _) (by omega) (by omega) (by omega) (c9.keep k8 (ne9 _ (Nat.le_refl _))) (c9.keep a1 (ne9 _ (by omega))) (c9.keep a2 (ne9 _ (by omega))) (fun q x hq hn => by
        have := hI7.1.lt hq
        exact ⟨c9.keep (c8.keep hq (by show ¬ q = v.2.1; omega)) (ne9 _ (by omega)), by omega, by omega, by omega⟩) hm
      have nF9 := c9.le1
      have c59 : cx E u v9 (fun q => q = th) (27 + 53 * (k + 1)) := by
        have c56 := (cx.tn hw c c5 (fun q e => Or.inr (by have e : q = u.2.1 + 2 := e; omega)))
        have c67 := (c56.tr c6.no).tr c7.no
        have c78 := cx.tn hw c67 c8 (fun q e => Or.inr (by have e : q = v.2.1 := e; omega))
        exact (cx.tn hw c78 c9 (fun q e => Or.inr (by rcases e with e | ⟨e, -⟩ <;> omega))).le (by omega)
      refine ih (k + 1) v9 p' _ (mc + 1) (by omega) (by rw [List.length_append, hL]; rfl) s3 s4 (hzp.trans s1) (s1 _ _ hpt) ?_ ?_ c59 (by omega) ?_ s2 ?_
      · rw [List.map_append]
        exact l9
      · rw [take_s hqk, qphi_s, ← hphi]
        unfold kphi
        rw [List.map_append]
        rfl
      · obtain ⟨l', hl'⟩ := hi
        refine ⟨l', c9.keep (c8.keep (c7.at (c6.at hl')) (by show ¬ u.2.1 + 2 = v.2.1; omega)) (by show ¬ (u.2.1 + 2 = u.2.1 ∨ _); omega)⟩
      · intro q hq
        rcases k_F_app hq with y | y | y
        · exact hFX q y
        · have y : q = v7.2.1 := y; omega
        · have y : q = v7.2.1 + 1 := y; omega
  obtain ⟨p0, hp0⟩ := rs_ex w11.1 (fun q => q = u.2.1 + 2 ∨ q = u.2.1 ∨ q = u.2.1 + 1)
  have hz11 : c_sub z p0 := by
    intro q o hqz
    have := hw.lt (hz q o hqz)
    exact (hp0 q o).mpr ⟨c11.at (hz10 q o hqz), by omega⟩
  have hpt : p0 th = some (12, [va_rf (some a), va_rf (some u.2.1)]) := (hp0 _ _).mpr ⟨c11.at h10, by omega⟩
  refine key Q.length 0 w11 p0 [] 0 (by omega) rfl ⟨⟨fun e he => (by cases he), fun i j e f hi => (by cases hi)⟩, hA.mono hz11 hz11, ⟨_, hpt⟩, fun j e hj => (by cases hj)⟩ ⟨c11.ok, fun q o hqq => ((hp0 q o).mp hqq).1, fun e he => (by cases he)⟩ hz11 hpt (l10.mono c11.sub1) rfl ((c10.tr c11.no).le (by omega)) (by omega) i11 (fun q o hqq => ((hp0 q o).mp hqq).2) ?_
  rintro q ⟨f, hf, -⟩
  cases hf
end
