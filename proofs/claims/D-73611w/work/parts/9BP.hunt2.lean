set_option maxRecDepth 100000
/-! the component: the words that a hunt leaves -/
section
variable {E : pw_E} {d : Nat} {u : pw_W} {Ds : List dc} {a hu fl : Nat} {t : Int} {F : List hF}
theorem c_canSO : pw_can 21 "java/lang/Object" := Or.inl ⟨_, rfl, by decide, Or.inr q3223⟩
def hu_W (s : List Int) : Int := s_wide 4 (s_code s)
theorem hu_cap {n cap : Nat} (h : cap = 0 ∨ 10 ≤ cap ∧ (cap = 10 ∨ 2 * cap ≤ 3 * n)) (hn : n = cap) : (c_gr cap = 0 ∨ 10 ≤ c_gr cap ∧ (c_gr cap = 10 ∨ 2 * c_gr cap ≤ 3 * (n + 1))) ∧ 4 * cap + c_gr cap + 4 ≤ 4 * c_gr cap := by
  by_cases z : cap = 0
  · subst z
    rw [show c_gr 0 = 10 from rfl]
    omega
  · have := c_gr_le (cap := cap) (by omega)
    omega
theorem hu_init_ok {z : pw_H} {x0 x1 : Value} {K : pw_W → Prop} (hd : 30 ≤ d) (hw : wf E u) (hz : c_sub z u.1) (hzh : z hu = none) (hh : u.1 hu = some (16, [x0, x1])) (hb : pw_base E ≤ hu) (hA : c_arch E z z a Ds t) (hD : da_ok Ds) (hdw : da_w Ds) (hf : c_facts E z fl F) (hF : hfok F)
    (H : ∀ (v : pw_W) (wl : Nat) (XS : List (List Int)) (ws : List Nat) (mc : Int32) (b cap : Nat), cx E u v (fun q => q = hu) 42000 → c_sub z v.1 → v.1 hu = some (16, [va_rf (some a), va_rf (some wl)]) → c_al E v.1 wl mc b cap (ws.map some) → ws.length = (XS.filter (hu_so Ds F)).length → (∀ (i w : Nat) (s : List Int), ws[i]? = some w → (XS.filter (hu_so Ds F))[i]? = some s → c_str v.1 w s) → XS.length ≤ 800 → (∀ s ∈ XS, (∀ c ∈ s, 97 ≤ c ∧ c ≤ 122) ∧ 1 ≤ s.length ∧ s.length ≤ 4) → (∀ (i j : Nat) (s r : List Int), i < j → XS[i]? = some s → XS[j]? = some r → hu_W s < hu_W r) → (∀ κ, (∃ s ∈ XS, hu_W s = κ) ↔ 0 < (ix_R Ds κ).1) → K v) : pw_Cl E m_X17_init d [va_rf (some hu), va_rf (some a), va_rf (some fl)] u (c_v K) := by
  replace hd := pw_d1 hd; obtain ⟨e, rfl, hd⟩ := hd
  have hlt := hw.lt hh
  have hbb := hw.b
  have c1 : cx E u (pw_new u (18, [.int 0, va_rf none, .int 0]) 3) c_no 7 := cx.new hw _ 3
  refine e_X17_init _ _ _ (s_X17_init_0 _ _ _ ?_)
  show pw_Cl E m_J2_init_2 e [va_rf (some u.2.1)] (pw_new u (18, [.int 0, va_rf none, .int 0]) 3) _
  refine cl_init0_ok (by omega) c1.ok (pw_new_1 _ _ _) hbb (fun w2 b0 c2 n2 hb0 l2 => ?_)
  have n2' : w2.2.1 = u.2.1 + 1 := by rw [n2]; rfl
  have l2 : c_al E w2.1 u.2.1 0 b0 0 [] := l2
  have c12 : cx E u w2 c_no 7 := (cx.tn hw c1 c2 (fun q e => Or.inr (by have e : q = u.2.1 := e; omega))).le (by omega)
  have hh2 := c12.at hh
  have c3 : cx E w2 (pw_up w2 hu (16, [x0, va_rf (some u.2.1)])) (fun q => q = hu) 0 := cx.up c12.ok _ hh2 hb rfl
  have c4 : cx E (pw_up w2 hu (16, [x0, va_rf (some u.2.1)])) (pw_up (pw_up w2 hu (16, [x0, va_rf (some u.2.1)])) hu (16, [va_rf (some a), va_rf (some u.2.1)])) (fun q => q = hu) 0 := cx.up c3.ok _ (pw_up_1 _ _ _) hb rfl
  refine ⟨hu, _, rfl, hh2, hb, ⟨hu, _, rfl, pw_up_1 _ _ _, hb, ?_⟩⟩
  show f_V E (pw_up (pw_up w2 hu (16, [x0, va_rf (some u.2.1)])) hu (16, [va_rf (some a), va_rf (some u.2.1)])) (some a) 4 m_X5_index e [] _
  have h10 : (pw_up (pw_up w2 hu (16, [x0, va_rf (some u.2.1)])) hu (16, [va_rf (some a), va_rf (some u.2.1)])).1 hu = some (16, [va_rf (some a), va_rf (some u.2.1)]) := pw_up_1 _ _ _
  have n10 : (pw_up (pw_up w2 hu (16, [x0, va_rf (some u.2.1)])) hu (16, [va_rf (some a), va_rf (some u.2.1)])).2.1 = u.2.1 + 1 := n2'
  have c10 : cx E u (pw_up (pw_up w2 hu (16, [x0, va_rf (some u.2.1)])) hu (16, [va_rf (some a), va_rf (some u.2.1)])) (fun q => q = hu) 7 := ((c12.no.tr c3).tr c4).le (by omega)
  have l10 : c_al E (pw_up (pw_up w2 hu (16, [x0, va_rf (some u.2.1)])) hu (16, [va_rf (some a), va_rf (some u.2.1)])).1 u.2.1 0 b0 0 [] := (l2.keep c3 (by omega) (fun q => by omega)).keep c4 (by omega) (fun q => by omega)
  generalize pw_up (pw_up w2 hu (16, [x0, va_rf (some u.2.1)])) hu (16, [va_rf (some a), va_rf (some u.2.1)]) = w10 at h10 n10 c10 l10 ⊢
  clear c3 c4 hh2 c12 l2 n2 n2' c2 c1
  have hz10 : c_sub z w10.1 := c10.sub hz (fun q o hq e => by have e : q = hu := e; subst e; rw [hzh] at hq; cases hq)
  have hA10 := hA.mono hz10 hz10
  obtain ⟨us, hus⟩ := hA10.obj
  refine ⟨a, us, rfl, hus, ca_index_ok (by omega) c10.ok hA10 hD hdw (fun w11 m mcT xs c11 hom ho hl8 => ?_)⟩
  obtain ⟨htm, -, -, hkeys⟩ := hom
  obtain ⟨us', hus'⟩ := htm.obj
  replace hd := pw_d1 hd; obtain ⟨e, rfl, hd⟩ := hd
  have hm1 : w10.2.1 ≤ m := ho m (Or.inl (Or.inl rfl))
  refine ⟨m, us', rfl, hus', e_J18_keySet _ (s_J18_keySet_0 _ ⟨m, us', rfl, hus', tm_keySet_ok (by omega) c11.ok htm (fun w12 c12 n12 htm12 hs12 => ⟨_, rfl, ?_⟩)⟩)⟩
  refine ⟨w11.2.1, _, rfl, hs12, tm_iterator_ok (by omega) c12.ok htm12 hs12 (fun w13 c13 n13 hit13 => ?_)⟩
  have htm13 := htm12.keep c13 (fun f => f) (fun _ _ f => f) (fun _ _ _ f => f.elim)
  have n1112 := c11.le1
  -- the strings behind the keys
  obtain ⟨XS, hXl, hXs⟩ := l_pick (R := fun (e : tE) (s : List Int) => c_str w13.1 e.2.1 s ∧ 1 ≤ s.length ∧ s.length ≤ 4 ∧ e.2.2.1 = hu_W s) xs (fun e he => htm13.2.1 e he)
  have c1013 : cx E w10 w13 c_no 28013 := (((cx.tn c10.ok c11 c12 (fun q e => Or.inr (by have e : q = m := e; omega)))).tr c13).le (by omega)
  have c013 : cx E u w13 (fun q => q = hu) 28020 := (c10.tr c1013.no).le (by omega)
  have l13 := l10.mono c1013.sub1
  have h13 := c1013.at h10
  have hz13 := hz10.trans c1013.sub1
  have nw12 : w12.2.1 = w11.2.1 + 1 := n12
  have key : ∀ (f k : Nat) (v : pw_W) (ws : List Nat) (mc : Int32) (b cap : Nat), k + f = xs.length → cx E w13 v (fun q => q = u.2.1 ∨ q = w12.2.1) (8 * k + 4 * cap) → c_kit v.1 w12.2.1 k mcT m xs → c_al E v.1 u.2.1 mc b cap (ws.map some) → (0 < cap → w13.2.1 ≤ b) → (cap = 0 ∨ 10 ≤ cap ∧ (cap = 10 ∨ 2 * cap ≤ 3 * ws.length)) → ws.length = ((XS.take k).filter (hu_so Ds F)).length → (∀ (i w : Nat) (s : List Int), ws[i]? = some w → ((XS.take k).filter (hu_so Ds F))[i]? = some s → c_str v.1 w s) → pw_Wp E m_X17_init (e + 1 + 1) 33 [some (va_rf (some hu)), none, some (va_rf (some fl)), some (va_rf (some w12.2.1)), none] [] v (c_v K) := by
    have hkind : ∀ (q : Nat) (o : pw_O), w13.1 q = some o → (q = u.2.1 ∨ q = w12.2.1) → o.1 = 18 ∨ o.1 = 25 := by
      rintro q o hq (rfl | rfl)
      · rw [l13.1] at hq; cases hq; exact Or.inl rfl
      · obtain ⟨l, hl⟩ := hit13
        rw [hl] at hq; cases hq; exact Or.inr rfl
    have hK13 : ∀ (q : Nat) (o : pw_O), w13.1 q = some o → (q = u.2.1 ∨ q = w12.2.1) → o.1 ≠ 21 ∧ o.1 ≠ 28 ∧ o.1 ≠ 1001 := fun q o h1 h2 => by
      have := hkind q o h1 h2
      omega
    have tmv : ∀ (v : pw_W) (n : Nat), cx E w13 v (fun q => q = u.2.1 ∨ q = w12.2.1) n → c_tm E false v.1 v.1 m mcT (some w11.2.1) xs := by
      intro v n cv
      refine htm13.keep cv (fun h => ?_) (fun e he h => ?_) hK13
      · obtain ⟨us, hu1⟩ := htm13.obj
        have := hkind m _ hu1 h
        have hu1 := htm13.kind m _ hu1 (Or.inl rfl)
        omega
      · obtain ⟨⟨y0, y1, y6, y8, S, ⟨q1, q2, q3⟩, q4⟩, -⟩ := htm13
        have := hkind e.1 _ (q3 e he).2 h
        have h5 : (23 : Nat) = 18 ∨ (23 : Nat) = 25 := this
        omega
    intro f
    induction f with
    | zero =>
      intro k v ws mc b cap hk cv hit hal hbn hcap hwl hwe
      refine s_X17_init_33 _ _ _ (tm_step (by omega) cv.ok hit (by omega) (tmv v _ cv) (fun _ => ⟨rfl, ?_⟩) (fun e w' he => by have := (List.getElem?_eq_some_iff.mp he).1; omega))
      have hcl : cap ≤ 1300 := by
        have h1 : ((XS.take k).filter (hu_so Ds F)).length ≤ (XS.take k).length := List.length_filter_le _ _
        have h2 : (XS.take k).length ≤ k := by rw [List.length_take]; omega
        omega
      have hkX : k = XS.length := by omega
      subst hkX
      rw [List.take_length] at hwl hwe
      have cuv : cx E u v (fun q => q = hu) 42000 := (cx.tn hw c013 cv (fun q e => Or.inr (by rcases e with e | e <;> omega))).le (by omega)
      refine H v u.2.1 XS ws mc b cap cuv (cuv.sub hz (fun q o hq e => by have e : q = hu := e; subst e; rw [hzh] at hq; cases hq)) (cv.keep h13 (by omega)) hal hwl hwe (by omega) (fun s hs => ?_) (fun i j s r hij hi hj => ?_) (fun κ => ?_)
      · obtain ⟨i, hi⟩ := List.getElem?_of_mem hs
        obtain ⟨x, hx⟩ := dc_get (l := xs) (i := i) (by have := (List.getElem?_eq_some_iff.mp hi).1; omega)
        have := hXs i x s hx hi
        obtain ⟨sb, sv2, sv3, st1, st2, st3, st4⟩ := this.1
        exact ⟨st4, this.2.1, this.2.2.1⟩
      · obtain ⟨x, hx⟩ := dc_get (l := xs) (i := i) (by have := (List.getElem?_eq_some_iff.mp hi).1; omega)
        obtain ⟨y, hy⟩ := dc_get (l := xs) (i := j) (by have := (List.getElem?_eq_some_iff.mp hj).1; omega)
        rw [← (hXs i x s hx hi).2.2.2, ← (hXs j y r hy hj).2.2.2]
        exact htm13.2.2.1 i j x y hij hx hy
      · refine Iff.trans ?_ (hkeys κ)
        constructor
        · rintro ⟨s, hs, rfl⟩
          obtain ⟨i, hi⟩ := List.getElem?_of_mem hs
          obtain ⟨x, hx⟩ := dc_get (l := xs) (i := i) (by have := (List.getElem?_eq_some_iff.mp hi).1; omega)
          exact ⟨x, List.mem_of_getElem? hx, (hXs i x s hx hi).2.2.2⟩
        · rintro ⟨x, hx, rfl⟩
          obtain ⟨i, hi⟩ := List.getElem?_of_mem hx
          obtain ⟨s, hs⟩ := dc_get (l := XS) (i := i) (by have := (List.getElem?_eq_some_iff.mp hi).1; omega)
          exact ⟨s, List.mem_of_getElem? hs, ((hXs i x s hi hs).2.2.2).symm⟩
    | succ f ih =>
      intro k v ws mc b cap hk cv hit hal hbn hcap hwl hwe
      refine s_X17_init_33 _ _ _ (tm_step (by omega) cv.ok hit (by omega) (tmv v _ cv) (fun hx => ?_) (fun x v1 hx cv1 nv1 hit1 => ?_))
      · rw [List.getElem?_eq_none_iff] at hx
        omega
      obtain ⟨s, hs⟩ := dc_get (l := XS) (i := k) (by omega)
      have hxs := hXs k x s hx hs
      have lt12 : w12.2.1 < w13.2.1 := by omega
      have cv2 : cx E w13 v1 (fun q => q = u.2.1 ∨ q = w12.2.1) (8 * k + 4 * cap) := (cv.tr (cv1.mono (fun q _ _ e => Or.inr e) (Nat.le_refl _))).le (by omega)
      have hstr : c_str v1.1 x.2.1 s := hxs.1.keep cv2 (fun q o h1 h2 => ⟨(by
        have := (by
          rcases h2 with rfl | rfl
          · rw [l13.1] at h1; cases h1; exact Or.inl rfl
          · obtain ⟨l, hl⟩ := hit13
            rw [hl] at h1; cases h1; exact Or.inr rfl : o.1 = 18 ∨ o.1 = 25)
        omega), (by
        have := (by
          rcases h2 with rfl | rfl
          · rw [l13.1] at h1; cases h1; exact Or.inl rfl
          · obtain ⟨l, hl⟩ := hit13
            rw [hl] at h1; cases h1; exact Or.inr rfl : o.1 = 18 ∨ o.1 = 25)
        omega)⟩)
      have hal1 : c_al E v1.1 u.2.1 mc b cap (ws.map some) := hal.keep cv1 (by omega) (fun q => by have := hbn q; omega)
      have hz1 : c_sub z v1.1 := cv2.sub hz13 (fun q o hq e => by have := hw.lt (hz q o hq); rcases e with e | e <;> omega)
      have hh1 := cv2.keep h13 (by omega)
      have hstr0 := hstr
      obtain ⟨sb, sv2, sv3, st1, st2⟩ := hstr0
      refine ⟨Or.inr ⟨x.2.1, 21, _, rfl, st1, c_canS⟩, hu, _, rfl, hh1, hu_isSo_ok (by omega) cv1.ok (hA.mono hz1 hz1) hD hh1 ⟨sb, sv2, sv3, st1, st2⟩ (hf.mono hz1) hF (fun v2 c2 => ?_)⟩
      have cv3 := cv2.tr c2.no
      have htake := take_s hs
      have hal2 := hal1.mono c2.sub1
      have hit2 : c_kit v2.1 w12.2.1 (k + 1) mcT m xs := by
        obtain ⟨l, hl⟩ := hit1
        exact ⟨l, c2.at hl⟩
      have hwe2 : ∀ (i w : Nat) (s : List Int), ws[i]? = some w → ((XS.take k).filter (hu_so Ds F))[i]? = some s → c_str v2.1 w s := by
        intro i w' s' h1 h2
        refine ((hwe i w' s' h1 h2).keep cv1 (fun q o h3 h4 => ?_)).mono c2.sub1
        have h4 : q = w12.2.1 := h4
        subst h4
        obtain ⟨l, hl⟩ := hit
        rw [hl] at h3
        cases h3
        exact ⟨(by decide : (25 : Nat) ≠ 21), (by decide : (25 : Nat) ≠ 1001)⟩
      cases hb : hu_so Ds F s with
      | false =>
        refine ifT (by decide) (ih (k + 1) v2 ws mc b cap (by omega) (cv3.le (by omega)) hit2 hal2 hbn hcap ?_ ?_)
        · rw [htake, List.filter_append]
          simp [hb, hwl]
        · rw [htake, List.filter_append]
          simpa [hb] using hwe2
      | true =>
        have hstr2 : c_str v2.1 x.2.1 s := hstr.mono c2.sub1
        have hels : c_els v2.1 (ws.map some) := by
          intro y hy
          obtain ⟨w', hw', rfl⟩ := List.mem_map.mp hy
          obtain ⟨i, hi⟩ := List.getElem?_of_mem hw'
          obtain ⟨s', hs'⟩ := dc_get (l := (XS.take k).filter (hu_so Ds F)) (i := i) (by have := (List.getElem?_eq_some_iff.mp hi).1; omega)
          obtain ⟨b', y2, y3, y4, -⟩ := hwe2 i w' s' hi hs'
          exact Or.inr ⟨w', 21, _, rfl, y4, c_canSO⟩
        have hwk : ws.length ≤ k := by
          have h1 : ((XS.take k).filter (hu_so Ds F)).length ≤ (XS.take k).length := List.length_filter_le _ _
          have h2 : (XS.take k).length ≤ k := by rw [List.length_take]; omega
          omega
        refine ifF (by decide) ⟨hu, _, _, rfl, c2.at hh1, rfl, u.2.1, _, rfl, hal2.1, cl_add_ok (x := some x.2.1) (by omega) c2.ok hal2 hels (Or.inr ⟨_, 21, _, rfl, c2.at st1, c_canSO⟩) (by omega) (fun v3 b' cap' c3 hor hal3 => ?_)⟩
        have hwsl : (ws.map some).length = ws.length := List.length_map _
        rw [hwsl] at hor c3
        have hbk : 0 < cap → w13.2.1 ≤ b := hbn
        have nv13 : w13.2.1 ≤ v2.2.1 := cv3.le1
        have hmem : ∀ (i w : Nat) (s' : List Int), (ws ++ [x.2.1])[i]? = some w → ((XS.take (k + 1)).filter (hu_so Ds F))[i]? = some s' → c_str v3.1 w s' := by
          have hkeep : ∀ (q : Nat) (s' : List Int), c_str v2.1 q s' → c_str v3.1 q s' := by
            intro q s' hq
            refine hq.keep c3 (fun q' o h3 h4 => ?_)
            rcases h4 with h4 | ⟨h4, h5⟩
            · subst h4
              rw [hal2.1] at h3
              cases h3
              exact ⟨(by decide : (18 : Nat) ≠ 21), (by decide : (18 : Nat) ≠ 1001)⟩
            · subst h4
              obtain ⟨vs, -, hv2, -⟩ := hal2.use c2.ok
              rw [hv2] at h3
              cases h3
              exact ⟨(by decide : (1003 : Nat) ≠ 21), (by decide : (1003 : Nat) ≠ 1001)⟩
          intro i w' s' h1 h2
          rw [htake, List.filter_append, show [s].filter (hu_so Ds F) = [s] by simp [hb]] at h2
          rcases app_at h1 with ⟨i1, i2⟩ | ⟨i1, i2⟩
          · rcases app_at h2 with ⟨j1, j2⟩ | ⟨j1, j2⟩
            · exact hkeep _ _ (hwe2 i w' s' i2 j2)
            · omega
          · rcases app_at h2 with ⟨j1, j2⟩ | ⟨j1, j2⟩
            · omega
            · subst i2
              subst j2
              exact hkeep _ _ hstr2
        have hlen : (ws ++ [x.2.1]).length = ((XS.take (k + 1)).filter (hu_so Ds F)).length := by
          rw [htake, List.filter_append, show [s].filter (hu_so Ds F) = [s] by simp [hb], List.length_append, List.length_append, hwl]
          rfl
        have hit3 : c_kit v3.1 w12.2.1 (k + 1) mcT m xs := by
          obtain ⟨l, hl⟩ := hit2
          refine ⟨l, c3.keep hl (fun h => ?_)⟩
          rcases h with h | ⟨h, h'⟩
          · omega
          · have := hbk (by omega); omega
        have hal3' : c_al E v3.1 u.2.1 (mc + 1) b' cap' ((ws ++ [x.2.1]).map some) := by rw [List.map_append]; exact hal3
        rcases hor with ⟨h1, rfl, rfl, h4⟩ | ⟨h1, rfl, rfl, h4⟩
        · rw [if_neg (by omega)] at c3
          have c4 := cx.tn c013.ok cv3 c3 (fun q e => Or.elim e (fun e => Or.inl (Or.inl e)) (fun e => Or.inr (by have e1 := e.1; have e2 := e.2; have := hbk (by omega); omega)))
          exact ih (k + 1) v3 (ws ++ [x.2.1]) (mc + 1) b' cap' (by omega) (c4.le (by omega)) hit3 hal3' hbn (by rw [List.length_append]; simp; omega) hlen hmem
        · rw [if_pos h1] at c3
          have hcap2 := hu_cap hcap h1
          have c4 := cx.tn c013.ok cv3 c3 (fun q e => Or.elim e (fun e => Or.inl (Or.inl e)) (fun e => absurd e.2 (by omega)))
          exact ih (k + 1) v3 (ws ++ [x.2.1]) (mc + 1) _ _ (by omega) (c4.le (by omega)) hit3 hal3' (fun _ => nv13) (by rw [List.length_append]; exact hcap2.1) hlen hmem
  exact key xs.length 0 w13 [] 0 b0 0 (by omega) (cx.refl c013.ok) hit13 l13 (fun h => by omega) (Or.inl rfl) rfl (fun i w s h => by simp at h)
end
