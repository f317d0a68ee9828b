set_option maxRecDepth 100000
/-! the component: one change drawn and made -/
section
variable {E : pw_E} {d : Nat} {w w' : pw_W} {a b dr i n : Nat} {D : dc} {x x' : dX} {F : Nat → Prop} {Ds : List dc} {t s0 : Int} {l : lX} {as : List Nat} {xs : List dX}
/-- one of its documents changed, and a Drawn object -/
theorem c_aX.edit2 {D' : dc} (hw : wf E w) (k : c_aX E w.1 a Ds t l as xs) (hi : Ds[i]? = some D) (hb : as[i]? = some b) (hx : xs[i]? = some x) (z : cx E w w' F n) (hF : ∀ (q : Nat) (o : pw_O), w.1 q = some o → F q → d_F x q ∨ o.1 = 17) (hk : c_dX E w'.1 b D' (dc_set D'.1) x') (hn : ∀ q, d_F x' q → d_F x q ∨ w.2.1 ≤ q) : c_aX E w'.1 a (Ds.set i D') t l as (xs.set i x') := by
  obtain ⟨⟨k1, k0⟩, k2, ⟨k3, k4⟩, k5, k6, k7⟩ := k
  have kx := k5 i b D x hb hi hx
  have kind := fun (q : Nat) (o : pw_O) (ho : w.1 q = some o) (hq : F q) => (show o.1 = 18 ∨ o.1 = 1003 ∨ o.1 = 7 ∨ o.1 = 17 from by
    rcases hF q o ho hq with hq | hq
    · obtain ⟨o', g1, g2, -⟩ := d_F_kind hw kx hq
      rw [ho] at g1; cases g1
      omega
    · omega)
  have il := (List.getElem?_eq_some_iff.mp hi).1
  have kfix : ∀ (q : Nat) (o : pw_O), w.1 q = some o → F q → k_fix o := fun q o ho hq => by
    have := kind q o ho hq
    unfold k_fix
    omega
  obtain ⟨vs, q1, q2, -⟩ := c_al.use hw k2
  have l1 := hw.lt q1
  have l2 := hw.lt q2
  have nl1 : ¬ F l.1 := fun hq => by
    rcases hF _ _ q1 hq with hq | hq
    · exact (k7 i x hx _ hq).1 rfl
    · cases hq
  have nl2 : ¬ F l.2.1 := fun hq => by
    rcases hF _ _ q2 hq with hq | hq
    · exact (k7 i x hx _ hq).2 rfl
    · cases hq
  refine ⟨⟨z.keep k1 (fun hq => by have := kind _ _ k1 hq; have : (4 : Nat) = 18 ∨ (4 : Nat) = 1003 ∨ (4 : Nat) = 7 ∨ (4 : Nat) = 17 := this; omega), k0⟩, c_lX.keep k2 z nl1 (fun _ => nl2), ⟨by rw [List.length_set]; exact k3, by rw [List.length_set, List.length_set]; exact k4⟩, fun j b9 D9 x9 hb9 hD9 hx9 => ?_, fun j j' y y' hne hy hy' q hq => ?_, fun j y hy q hq => ?_⟩
  · by_cases e : i = j
    · subst e
      rw [List.getElem?_set_self (by omega)] at hD9 hx9
      cases hD9
      cases hx9
      rw [hb] at hb9
      cases hb9
      exact hk
    · rw [List.getElem?_set_ne e] at hD9 hx9
      refine (k5 j b9 D9 x9 hb9 hD9 hx9).keep z (fun q hq hFq => ?_) kfix
      obtain ⟨o, g1, g2, -⟩ := d_F_kind hw (k5 j b9 D9 x9 hb9 hD9 hx9) hq
      rcases hF q o g1 hFq with h9 | h9
      · exact k6 j i x9 x (Ne.symm e) hx9 hx q hq h9
      · omega
  · have lt : ∀ (m : Nat) (y : dX), xs[m]? = some y → ∀ q, d_F y q → q < w.2.1 := fun m y hy q hq => by
      have hm := (List.getElem?_eq_some_iff.mp hy).1
      obtain ⟨D9, hD9⟩ := dc_get (l := Ds) (i := m) (by omega)
      obtain ⟨b9, hb9⟩ := dc_get (l := as) (i := m) (by omega)
      exact dX_lt hw (k5 m b9 D9 y hb9 hD9 hy) hq
    by_cases e : i = j
    · subst e
      rw [List.getElem?_set_self (by omega)] at hy
      cases hy
      rw [List.getElem?_set_ne hne] at hy'
      rcases hn q hq with h9 | h9
      · exact k6 i j' x y' hne hx hy' q h9
      · exact fun h8 => by have := lt j' y' hy' q h8; omega
    · rw [List.getElem?_set_ne e] at hy
      by_cases e' : i = j'
      · subst e'
        rw [List.getElem?_set_self (by omega)] at hy'
        cases hy'
        intro h8
        rcases hn q h8 with h9 | h9
        · exact k6 j i y x hne hy hx q hq h9
        · have := lt j y hy q hq; omega
      · rw [List.getElem?_set_ne e'] at hy'
        exact k6 j j' y y' hne hy hy' q hq
  · by_cases e : i = j
    · subst e
      rw [List.getElem?_set_self (by omega)] at hy
      cases hy
      rcases hn q hq with h9 | h9
      · exact k7 i x hx q h9
      · exact ⟨by omega, by omega⟩
    · rw [List.getElem?_set_ne e] at hy
      exact k7 j y hy q hq
theorem dr_one_ok {K : pw_W → Prop} (hd : 100 ≤ d) (hw : wf E w) (h : c_aX E w.1 a Ds t l as xs) (hdr : w.1 dr = some (17, [va_rf (some a), .int (iI s0)])) (hbd : pw_base E ≤ dr) (hi : Ds[i]? = some D) (hb : as[i]? = some b) (hD : dc_ok D) (h1 : 1 ≤ D.1.length) (h10 : D.1.length ≤ 10) (h20 : dc_last D ≤ 20) (hl : D.2.1.length + 1 ≤ 1000) (ht : 0 ≤ t ∧ t ≤ 1000)
    (hD' : ∀ row ∈ (dw_on D t (dw D s0).1).1, row.Nodup ∧ row.length ≤ 20 ∧ ∀ j ∈ row, j < (dw_on D t (dw D s0).1).2.1.length)
    (H : ∀ (u : pw_W) (xs' : List dX) (cc : Nat), cx E w u (fun q => q = dr ∨ a_F a l xs q) cc → cc + a_P xs ≤ a_P xs' + 300 → u.1 dr = some (17, [va_rf (some a), .int (iI (dw D s0).2)]) → c_aX E u.1 a (Ds.set i (dw_on D t (dw D s0).1)) (dw_t D t (dw D s0).1) l as xs' → (∀ q, a_F a l xs' q → a_F a l xs q ∨ w.2.1 ≤ q) → K u) : pw_Cl E m_X18_one d [va_rf (some dr), va_rf (some b)] w (c_v K) := by
  replace hd := pw_d1 hd; obtain ⟨e, rfl, hd⟩ := hd
  obtain ⟨x, hx⟩ := dc_get (l := xs) (i := i) (by have := (List.getElem?_eq_some_iff.mp hi).1; have := h.2.2.1.2; omega)
  have hk := h.2.2.2.1 i b D x hb hi hx
  have ndx : ∀ (v : pw_W) (y : dX) (X : Nat → Int) (D9 : dc) (us : List Value), wf E v → c_dX E v.1 b D9 X y → v.1 dr = some (17, us) → ∀ q, d_F y q → q ≠ dr := fun v y X D9 us hv hk hdr q hq e => by
    subst e
    obtain ⟨o, g1, g2, -⟩ := d_F_kind hv hk hq
    rw [hdr] at g1; cases g1
    rcases g2 with g2 | g2 | g2 <;> cases g2
  refine e_X18_one _ _ (s_X18_one_0 _ _ ⟨dr, _, rfl, hdr, dr_below_ok (n := 6) (by omega) hw hbd (by decide) hdr (fun w1 c1 n1 hdr1 => ?_)⟩)
  have kfix : ∀ (q : Nat) (o : pw_O), w.1 q = some o → q = dr → k_fix o := fun q o ho e => by
    subst e
    rw [hdr] at ho; cases ho
    exact ⟨(by decide : (17 : Nat) ≠ 6), (by decide : (17 : Nat) ≠ 1000), (by decide : (17 : Nat) ≠ 21), (by decide : (17 : Nat) ≠ 1001), (by decide : (17 : Nat) ≠ 28)⟩
  have hk1 := hk.keep c1 (ndx w x _ D _ hw hk hdr) kfix
  refine ⟨dr, _, rfl, hdr1, dr_edit_ok (by omega) c1.ok hdr1 hbd hk1 hD h1 h10 h20 hl (fun u x' o ss cc cu hcc hdru hku hnu hres => ?_)⟩
  have cwu : cx E w u (fun q => q = dr ∨ d_F x q) cc := ((c1.mono (G := fun q => q = dr ∨ d_F x q) (fun q o _ hq => Or.inl hq) (Nat.le_refl _)).tr cu).le (by omega)
  have n1' : w1.2.1 = w.2.1 := by rw [n1]
  rw [n1'] at hnu
  have FF : ∀ (q : Nat) (o : pw_O), w.1 q = some o → (q = dr ∨ d_F x q) → d_F x q ∨ o.1 = 17 := fun q o ho hq => by
    rcases hq with rfl | hq
    · rw [hdr] at ho; cases ho; exact Or.inr rfl
    · exact Or.inl hq
  have toA : ∀ q, (q = dr ∨ d_F x q) → (q = dr ∨ a_F a l xs q) := fun q hq => hq.elim Or.inl (fun hq => Or.inr (Or.inr (Or.inr (Or.inr ⟨i, x, hx, hq⟩))))
  have setF : ∀ y : dX, (∀ q, d_F y q → d_F x q ∨ w.2.1 ≤ q) → ∀ q, a_F a l (xs.set i y) q → a_F a l xs q ∨ w.2.1 ≤ q := by
    intro y hy q hq
    rcases hq with hq | hq | hq | ⟨j, y', hj, hq⟩
    · exact Or.inl (Or.inl hq)
    · exact Or.inl (Or.inr (Or.inl hq))
    · exact Or.inl (Or.inr (Or.inr (Or.inl hq)))
    · by_cases e : i = j
      · subst e
        rw [List.getElem?_set_self (by have := (List.getElem?_eq_some_iff.mp hx).1; omega)] at hj
        cases hj
        rcases hy q hq with h9 | h9
        · exact Or.inl (Or.inr (Or.inr (Or.inr ⟨i, x, hx, h9⟩)))
        · exact Or.inr h9
      · rw [List.getElem?_set_ne e] at hj
        exact Or.inl (Or.inr (Or.inr (Or.inr ⟨j, y', hj, hq⟩)))
  have pset : ∀ y : dX, a_P (xs.set i y) + 8 * x.2.1.2.2.1 = a_P xs + 8 * y.2.1.2.2.1 := fun y => a_P_set hx
  -- the document stays
  have stay : ss = [] → dw_on D t (dw D s0).1 = D → dw_t D t (dw D s0).1 = t → K u := by
    intro hss hon hdt
    subst hss
    have app0 : (D.1, D.2.1 ++ ([] : List (List Int)), D.2.2) = D := by rw [List.append_nil]
    rw [app0] at hku
    have hA := h.edit2 hw hi hb hx cwu FF hku hnu
    have := pset x'
    refine H u (xs.set i x') cc (cwu.mono (fun q o _ hq => toA q hq) (Nat.le_refl _)) (by omega) hdru ?_ (setF x' hnu)
    rw [hon, hdt]
    exact hA
  cases hdw : (dw D s0).1 with
  | none =>
    rw [hdw] at hres
    obtain ⟨rfl, rfl⟩ := hres
    exact ifT rfl ⟨rfl, stay rfl (by rw [hdw]; rfl) (by rw [hdw]; rfl)⟩
  | some ee =>
    rw [hdw] at hres
    obtain ⟨rfl, o', rfl, ho1, ho2⟩ := hres
    obtain ⟨cc1, cc2, cc3, cc4⟩ := dw_can hdw h1 h10 h20
    have hssl : ee.2.2.2.length ≤ 1 := by
      by_cases z : ee.1 = 0
      · obtain ⟨s1, hs1, -⟩ := cc3 z
        rw [hs1]; exact Nat.le_refl 1
      · rw [cc4 z]; exact Nat.zero_le 1
    refine ifF (fun e => by cases e) (hku.many (by omega) ?_)
    have m10 : (iI (D.1.length : Nat) = 10) = (D.1.length = 10) := iI_eqn (b := 10) (by omega) (by omega)
    show if iI (D.1.length : Nat) = 10 then _ else _
    by_cases z : D.1.length = 10
    · refine ifT (by rw [m10]; exact z) ⟨rfl, stay (cc4 (fun e0 => by obtain ⟨s1, -, -, h9⟩ := cc3 e0; exact h9 z)) ?_ ?_⟩
      · rw [hdw]
        show (if D.1.length = 10 then D else _) = D
        rw [if_pos z]
      · rw [hdw]
        show (if D.1.length = 10 then t else t + 1) = t
        rw [if_pos z]
    · have hon : dw_on D t (dw D s0).1 = ed_D D (ch_row ee.1 D ee.2.1 ee.2.2.1 ee.2.2.2.length) ee.2.2.2 t := by
        rw [hdw]
        show (if D.1.length = 10 then D else _) = _
        rw [if_neg z]
      have hdt : dw_t D t (dw D s0).1 = t + 1 := by
        rw [hdw]
        show (if D.1.length = 10 then t else t + 1) = _
        rw [if_neg z]
      rw [hon] at hD'
      have hrow := hD' (ch_row ee.1 D ee.2.1 ee.2.2.1 ee.2.2.2.length) (List.mem_append_right _ (List.mem_singleton.mpr rfl))
      have hau : c_aX E u.1 a (Ds.set i (D.1, D.2.1 ++ ee.2.2.2, D.2.2)) t l as (xs.set i x') := h.edit2 hw hi hb hx cwu FF hku hnu
      have hD1 : dc_ok (D.1, D.2.1 ++ ee.2.2.2, D.2.2) := by
        obtain ⟨d1, d2, d3, d4, d5, d6⟩ := hD
        refine ⟨fun row hrow j hj => ?_, d2, d3, ?_, d5, d6⟩
        · show j < (D.2.1 ++ ee.2.2.2).length
          have := d1 row hrow j hj
          rw [List.length_append]; omega
        · show (D.2.1 ++ ee.2.2.2).length ≤ 1000
          rw [List.length_append]; omega
      refine ifF (by rw [m10]; exact z) ⟨dr, _, _, rfl, hdru, rfl, a, _, _, rfl, hau.1.1, rfl, b, _, rfl, hku.1, ?_⟩
      refine cd_edits_ok (D := (D.1, D.2.1 ++ ee.2.2.2, D.2.2)) (m := 60) (f := ch_row ee.1 D ee.2.1 ee.2.2.1 ee.2.2.2.length) (by omega) cu.ok hku hD1 (by show D.1.length ≤ 9; omega) ht hrow.2.2 (by omega) hrow.1 (fun e9 w9 r Q he9 c9 hr9 hQ => eO_ok hku hD h1 h20 cc1 cc2 (by omega) ho2 (by omega) c9 hr9 hQ) (fun u2 x2 c2 hk2 hn2 hx2 => ?_)
      have hn2' : ∀ q, d_F x2 q → d_F x q ∨ w.2.1 ≤ q := fun q hq => by
        rcases hn2 q hq with h9 | h9
        · exact hnu q h9
        · exact Or.inr (by have := cwu.le1; omega)
      have cwu2 : cx E w u2 (fun q => q = dr ∨ d_F x q) (cc + 160) := cx.tn hw cwu c2 (fun q hq => by
        rcases hnu q hq with h9 | h9
        · exact Or.inl (Or.inr h9)
        · exact Or.inr h9)
      have hA2 := h.edit2 hw hi hb hx cwu2 FF hk2 hn2'
      have hdr2 := c2.keep hdru (fun hq => ndx u x' _ _ _ cu.ok hku hdru dr hq rfl)
      obtain ⟨z3, hA3⟩ := hA2.date (y := t + 1) c2.ok
      have et : iI t + 1 = iI (t + 1) := iI_a1 _
      refine ⟨dr, _, _, rfl, hdr2, rfl, a, _, _, rfl, hA2.1.1, rfl, a, _, rfl, hA2.1.1, hA2.1.2, ⟨rfl, ?_⟩⟩
      rw [et]
      have da : dr ≠ a := by rintro rfl; have := h.1.1; rw [hdr] at this; cases this
      have := pset x2
      have e8 : x2.2.1.2.2.1 = x'.2.1.2.2.1 := by rw [hx2]
      refine H _ (xs.set i x2) (cc + 160 + 0) ((cwu2.mono (fun q o _ hq => toA q hq) (Nat.le_refl _)).tr (z3.mono (fun q o _ hq => Or.inr (Or.inl hq)) (Nat.le_refl _))) (by omega) (z3.keep hdr2 da) ?_ (setF x2 hn2')
      rw [hon, hdt]
      exact hA3
end
