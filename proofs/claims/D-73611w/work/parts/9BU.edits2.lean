set_option maxRecDepth 100000
/-! the component: a further version -/
theorem c_canIO : pw_can 1000 "java/lang/Object" := Or.inr ⟨0, _, rfl, by omega, rfl, Or.inr q3262⟩
theorem c_canNO : pw_can 28 "java/lang/Object" := Or.inl ⟨_, rfl, by decide, Or.inr q3236⟩
theorem upto_cg {α : Type} {f g : Nat → α → α} {x : α} : ∀ n : Nat, (∀ k a, k < n → f k a = g k a) → upto n f x = upto n g x := by
  intro n
  induction n with
  | zero => intro _; rfl
  | succ n ih =>
    intro h
    rw [upto_s, upto_s, ih (fun k a hk => h k a (by omega)), h n _ (by omega)]
theorem dc_set_app (R : List (List Nat)) (f : List Nat) (j : Nat) : dc_set (R ++ [f]) j = if j ∈ f then s_or (dc_set R j) (s_bit R.length) else dc_set R j := by
  unfold dc_set
  rw [List.length_append]
  show upto (R.length + 1) _ 0 = _
  rw [upto_s]
  have e : upto R.length (fun v s => if j ∈ (R ++ [f]).getD v [] then s_or s (s_bit v) else s) 0 = upto R.length (fun v s => if j ∈ R.getD v [] then s_or s (s_bit v) else s) 0 := by
    refine upto_cg _ (fun k a hk => ?_)
    rw [List.getD_eq_getElem?_getD, List.getD_eq_getElem?_getD, List.getElem?_append_left hk]
  rw [e]
  have e2 : (R ++ [f]).getD R.length [] = f := dc_getD (by rw [List.getElem?_append_right (Nat.le_refl _), Nat.sub_self]; rfl)
  rw [e2]
section
variable {E : pw_E} {d : Nat} {w w' : pw_W} {a : Nat} {D : dc} {X : Nat → Int} {x : dX} {F : Nat → Prop} {n : Nat}
theorem lX_add_ok {l : lX} {xs : List Nat} {y : Nat} {K : Bool → pw_W → Prop} (hd : 7 ≤ d) (hw : wf E w) (h : c_lX E w.1 l xs) (hc : 2 * l.2.2.1 ≤ 3 * xs.length + 20) (hx : xs.length ≤ 1000) (he : ∀ z ∈ y :: xs, ∃ (k : Nat) (us : List Value), w.1 z = some (k, us) ∧ pw_can k "java/lang/Object")
    (H : ∀ (u : pw_W) (l' : lX) (cc : Nat), cx E w u (fun q => q = l.1 ∨ (q = l.2.1 ∧ 0 < l.2.2.1)) cc → cc ≤ 2 * xs.length + 20 → cc + 8 * l.2.2.1 ≤ 8 * l'.2.2.1 → c_lX E u.1 l' (xs ++ [y]) → l'.1 = l.1 → (l'.2.1 = l.2.1 ∧ l'.2.2.1 = l.2.2.1 ∧ xs.length < l.2.2.1 ∨ w.2.1 ≤ l'.2.1 ∧ l'.2.1 < u.2.1) → 2 * l'.2.2.1 ≤ 3 * (xs.length + 1) + 20 → K true u) : f_V E w (some l.1) 18 m_J2_add d [va_rf (some y)] (c_z K) := by
  have hls : (xs.map some).length = xs.length := List.length_map _
  refine ⟨l.1, _, rfl, h.1, cl_add_ok (x := some y) hd hw h ?_ ?_ (by omega) (fun u b' cap' c hor hal => ?_)⟩
  · intro z hz
    obtain ⟨q, hq, rfl⟩ := List.mem_map.mp hz
    obtain ⟨k, us, h1, h2⟩ := he q (List.mem_cons_of_mem _ hq)
    exact Or.inr ⟨q, k, us, rfl, h1, h2⟩
  · obtain ⟨k, us, h1, h2⟩ := he y (List.mem_cons_self ..)
    exact Or.inr ⟨y, k, us, rfl, h1, h2⟩
  · rw [hls] at hor c
    have hb1 : (if xs.length = l.2.2.1 then c_gr l.2.2.1 + 4 else 0) ≤ 2 * xs.length + 20 ∧ (if xs.length = l.2.2.1 then c_gr l.2.2.1 + 4 else 0) + 8 * l.2.2.1 ≤ 8 * cap' := by
      rcases hor with ⟨h1, h2, h3, h4⟩ | ⟨h1, h2, h3, h4⟩
      · rw [if_neg (by omega)]
        omega
      · rw [if_pos h1, h3]
        unfold c_gr
        split <;> omega
    have c' : cx E w u (fun q => q = l.1 ∨ (q = l.2.1 ∧ 0 < l.2.2.1)) (if xs.length = l.2.2.1 then c_gr l.2.2.1 + 4 else 0) := by
      refine c.mono (fun q o _ z => ?_) (Nat.le_refl _)
      rcases z with z | ⟨z, z'⟩
      · exact Or.inl z
      · exact Or.inr ⟨z, by omega⟩
    refine H u (l.1, b', cap', l.2.2.2 + 1) _ c' hb1.1 hb1.2 ?_ rfl ?_ ?_
    · show c_al E u.1 l.1 (l.2.2.2 + 1) b' cap' ((xs ++ [y]).map some)
      rw [List.map_append]
      exact hal
    · rcases hor with ⟨h1, h2, h3, h4⟩ | ⟨h1, h2, h3, h4⟩
      · exact Or.inl ⟨h2, h3, h1⟩
      · exact Or.inr ⟨by show w.2.1 ≤ b'; omega, by show b' < u.2.1; omega⟩
    · show 2 * cap' ≤ _
      rcases hor with ⟨h1, h2, h3, h4⟩ | ⟨h1, h2, h3, h4⟩
      · omega
      · rw [h3]
        unfold c_gr
        split <;> omega
theorem c_dX.latest {K : Option Nat → pw_W → Prop} (hd : 4 ≤ d) (hw : wf E w) (k : c_dX E w.1 a D (dc_set D.1) x) (hD : dc_ok D) (H : ∀ (u : pw_W) (r : Nat), cx E w u c_no 4 → c_ints u.1 r (dc_row D (D.1.length - 1)) → K (some r) u) : f_V E w (some a) 6 m_X7_latest d [] (c_r K) := by
  by_cases z : D.1.length = 0
  · refine ⟨a, _, rfl, k.1, cd_latest0_ok hd hw k.doc z (fun w' c h => H w' _ c ?_)⟩
    have : dc_row D (D.1.length - 1) = [] := by
      unfold dc_row
      rw [List.getD_eq_getElem?_getD, List.getElem?_eq_none (by omega)]
      rfl
    rw [this]
    exact h
  · obtain ⟨row, hr⟩ := dc_get (l := D.1) (i := D.1.length - 1) (by omega)
    refine ⟨a, _, rfl, k.1, cd_latest_ok hd k.doc hD hr (fun r h => H w r (cx.refl hw) ?_)⟩
    unfold dc_row
    rw [dc_getD hr]
    exact h
def ed_X (D : dc) (f : List Nat) (k : Nat) : Nat → Int := fun j => if j ∈ f.take k then s_or (dc_set D.1 j) (s_bit D.1.length) else dc_set D.1 j
theorem cd_edits_ok {o m : Nat} {f : List Nat} {date : Int} {K : pw_W → Prop} (hd : 12 ≤ d) (hw : wf E w) (hk : c_dX E w.1 a D (dc_set D.1) x) (hD : dc_ok D) (hl : D.1.length ≤ 9) (hdate : 0 ≤ date ∧ date ≤ 1000) (hf : ∀ j ∈ f, j < D.2.1.length) (hfl : f.length ≤ 1000) (hnd : f.Nodup)
    (hE : ∀ (e : Nat) (w1 : pw_W) (r : Nat) (Q : Option Nat → pw_W → Prop), d ≤ e + 1 → cx E w w1 c_no 4 → c_ints w1.1 r (dc_row D (D.1.length - 1)) → (∀ (w2 : pw_W) (r' : Nat), cx E w1 w2 c_no m → c_ints w2.1 r' f → Q (some r') w2) → f_F E w1 (some o) ⟨"VersionSearch$Edit", "of", "([I)[I"⟩ (some (.array .int)) e [va_rf (some r)] (c_r Q))
    (H : ∀ (u : pw_W) (x' : dX), cx E w u (d_F x) (m + 100) → c_dX E u.1 a (D.1 ++ [f], D.2.1, D.2.2 ++ [date]) (dc_set (D.1 ++ [f])) x' → (∀ q, d_F x' q → d_F x q ∨ w.2.1 ≤ q) → x'.2.1 = x.2.1 → K u) : pw_Cl E m_X7_edits d [va_rf (some a), va_rf (some o), .int (iI date)] w (c_v K) := by
  replace hd := pw_d1 hd; obtain ⟨e, rfl, hd⟩ := hd
  have hDl := hD.2.1
  refine e_X7_edits _ _ _ (s_X7_edits_0 _ _ _ (hk.latest (by omega) hw hD (fun w1 r c1 hr1 => hE e w1 r _ (by omega) c1 hr1 (fun w2 r' c2 hr2 => ?_))))
  have hk2 : c_dX E w2.1 a D (ed_X D f 0) x := by
    have := (hk.keep c1 (fun _ _ z => z) (fun _ _ _ z => z.elim)).keep c2 (fun _ _ z => z) (fun _ _ _ z => z.elim)
    exact this
  refine dq_len hr2 ?_
  have key : ∀ (g k : Nat) (u : pw_W), k + g = f.length → cx E w2 u (d_F x) 0 → c_dX E u.1 a D (ed_X D f k) x → c_ints u.1 r' f → pw_Wp E m_X7_edits (e + 1) 22 [some (va_rf (some a)), none, some (.int (iI date)), some (va_rf (some r')), some (va_rf (some r')), some (.int (iI (f.length : Nat))), some (.int (iI (k : Nat))), none] [] u (c_v K) := by
    intro g
    induction g with
    | zero =>
      intro k u hkk cu hku hri
      have hkl : k = f.length := by omega
      subst hkl
      have hX : ed_X D f f.length = dc_set (D.1 ++ [f]) := by
        funext j
        unfold ed_X
        rw [List.take_length, dc_set_app]
      rw [hX] at hku
      obtain ⟨⟨lv, bv, cv, mv⟩, ⟨lt, bt, ct, mt⟩, ⟨ld, bd, cd, md⟩, rs, ts, ds⟩ := x
      obtain ⟨k1, k2, k3, k4, ⟨k5, k6⟩, ⟨k7, k8⟩, ⟨k9, k10⟩, ⟨b1, b2, b3, n1, n2, n3, n4, n5, n6⟩, p1, p2, p3⟩ := hku
      dsimp only at k1 k2 k3 k4 k5 k6 k7 k8 k9 k10 b2 b3 n1 n2 n3 n4 n5 n6 p1 p2 p3
      have hw0 := cu.ok
      refine s_X7_edits_22 _ _ _ _ _ _ (ifT (by rw [iI_len (by omega) (by omega)]; omega) ⟨a, _, _, rfl, k1, rfl, ?_⟩)
      refine lX_add_ok (l := (lv, bv, cv, mv)) (by omega) hw0 k2 (by dsimp only; omega) (by omega) (fun z hz => ?_) (fun u3 l3 cc3 c3 cb3 _ h3 e3 o3 q3 => ?_)
      · rcases List.mem_cons.mp hz with rfl | hz
        · exact ⟨1000, _, hri, c_canIO⟩
        · obtain ⟨v, hv⟩ := List.getElem?_of_mem hz
          obtain ⟨row, hrow⟩ := dc_get (l := D.1) (i := v) (by have := (List.getElem?_eq_some_iff.mp hv).1; omega)
          exact ⟨1000, _, k6 v z row hv hrow, c_canIO⟩
      dsimp only at c3 e3 o3 q3
      obtain ⟨v2, -, B2, -⟩ := c_al.use hw0 k2
      obtain ⟨v3, -, B3, -⟩ := c_al.use hw0 k3
      obtain ⟨v4, -, B4, -⟩ := c_al.use hw0 k4
      have A2 := k2.1
      have A3 := k3.1
      have A4 := k4.1
      dsimp only at A2 A3 A4 B2 B3 B4
      have nek : ∀ (p q kp kq : Nat) (us vs : List Value), u.1 p = some (kp, us) → u.1 q = some (kq, vs) → kp ≠ kq → p ≠ q := by
        rintro p q kp kq us vs h1 h2 h3 rfl
        rw [h1] at h2
        cases h2
        exact h3 rfl
      have lb2 := hw0.lt B2
      have lb3 := hw0.lt B3
      have lb4 := hw0.lt B4
      have fx3 : ∀ (q k : Nat) (us : List Value), u.1 q = some (k, us) → k ≠ 18 → k ≠ 1003 → u3.1 q = some (k, us) := fun q k us hq hk1 hk2 => c3.keep hq (fun z => z.elim (fun z => nek _ _ _ _ _ _ hq A2 hk1 z) (fun z => nek _ _ _ _ _ _ hq B2 hk2 z.1))
      refine ⟨a, _, _, rfl, fx3 _ _ _ k1 (by decide) (by decide), rfl, ci_valueOf_ok (by omega) c3.ok (by omega) (fun u4 bx c4 hbx => ?_)⟩
      have k43 : c_lX E u3.1 (ld, bd, cd, md) ds := k4.keep c3 (fun z => z.elim (fun z => n2 z.symm) (fun z => nek _ _ _ _ _ _ A4 B2 (by decide) z.1)) (fun _ z => z.elim (fun z => nek _ _ _ _ _ _ B4 A2 (by decide) z) (fun z => n5 z.1.symm))
      have k44 : c_lX E u4.1 (ld, bd, cd, md) ds := k43.keep c4 (fun z => z) (fun _ z => z)
      have k33 : c_lX E u3.1 (lt, bt, ct, mt) ts := k3.keep c3 (fun z => z.elim (fun z => n1 z.symm) (fun z => nek _ _ _ _ _ _ A3 B2 (by decide) z.1)) (fun _ z => z.elim (fun z => nek _ _ _ _ _ _ B3 A2 (by decide) z) (fun z => n4 z.1.symm))
      have k34 : c_lX E u4.1 (lt, bt, ct, mt) ts := k33.keep c4 (fun z => z) (fun _ z => z)
      have h34 : c_lX E u4.1 l3 (rs ++ [r']) := h3.keep c4 (fun z => z) (fun _ z => z)
      refine lX_add_ok (l := (ld, bd, cd, md)) (by omega) c4.ok k44 (by dsimp only; omega) (by omega) (fun z hz => ?_) (fun u5 l5 cc5 c5 cb5 _ h5 e5 o5 q5 => ⟨rfl, ?_⟩)
      · rcases List.mem_cons.mp hz with rfl | hz
        · exact ⟨28, _, hbx, c_canNO⟩
        · obtain ⟨v, hv⟩ := List.getElem?_of_mem hz
          obtain ⟨y, hy⟩ := dc_get (l := D.2.2) (i := v) (by have := (List.getElem?_eq_some_iff.mp hv).1; omega)
          exact ⟨28, _, c4.at (fx3 _ _ _ (k10 v z y hv hy) (by decide) (by decide)), c_canNO⟩
      dsimp only at c5 e5 o5 q5
      obtain ⟨v44, -, B44, -⟩ := c_al.use c4.ok k44
      have A44 := k44.1
      dsimp only at A44 B44
      have lb44 := c4.ok.lt B44
      have nek4 : ∀ (p q kp kq : Nat) (us vs : List Value), u4.1 p = some (kp, us) → u4.1 q = some (kq, vs) → kp ≠ kq → p ≠ q := by
        rintro p q kp kq us vs h1 h2 h3 rfl
        rw [h1] at h2
        cases h2
        exact h3 rfl
      have fx5 : ∀ (q k : Nat) (us : List Value), u4.1 q = some (k, us) → k ≠ 18 → k ≠ 1003 → u5.1 q = some (k, us) := fun q k us hq hk1 hk2 => c5.keep hq (fun z => z.elim (fun z => nek4 _ _ _ _ _ _ hq A44 hk1 z) (fun z => nek4 _ _ _ _ _ _ hq B44 hk2 z.1))
      have fx : ∀ (q k : Nat) (us : List Value), u.1 q = some (k, us) → k ≠ 18 → k ≠ 1003 → u5.1 q = some (k, us) := fun q k us hq hk1 hk2 => fx5 _ _ _ (c4.at (fx3 _ _ _ hq hk1 hk2)) hk1 hk2
      have n3le := c3.le1
      have n4le := c4.le1
      have h35 : c_lX E u5.1 l3 (rs ++ [r']) := by
        obtain ⟨v34, -, B34, -⟩ := c_al.use c4.ok h34
        have A34 := h34.1
        refine h34.keep c5 (fun z => z.elim (fun z => n2 (e3.symm.trans z)) (fun z => nek4 _ _ _ _ _ _ A34 B44 (by decide) z.1)) (fun _ z => z.elim (fun z => nek4 _ _ _ _ _ _ B34 A44 (by decide) z) (fun z => ?_))
        rcases o3 with ⟨t1, -⟩ | ⟨t1, -⟩
        · exact n5 (t1.symm.trans z.1)
        · have := z.1; omega
      have k35 : c_lX E u5.1 (lt, bt, ct, mt) ts := by
        obtain ⟨v34, -, B34, -⟩ := c_al.use c4.ok k34
        have A34 := k34.1
        dsimp only at A34 B34
        exact k34.keep c5 (fun z => z.elim (fun z => n3 z) (fun z => nek4 _ _ _ _ _ _ A34 B44 (by decide) z.1)) (fun _ z => z.elim (fun z => nek4 _ _ _ _ _ _ B34 A44 (by decide) z) (fun z => n6 z.1))
      have cc : cx E w u5 (d_F ((lv, bv, cv, mv), (lt, bt, ct, mt), (ld, bd, cd, md), rs, ts, ds)) (m + 100) := by
        have y0 : cx E w u (d_F ((lv, bv, cv, mv), (lt, bt, ct, mt), (ld, bd, cd, md), rs, ts, ds)) (4 + m + 0) := (c1.no.tr c2.no).tr cu
        have y1 := y0.tr (c3.mono (G := d_F ((lv, bv, cv, mv), (lt, bt, ct, mt), (ld, bd, cd, md), rs, ts, ds)) (fun q o _ z => z.elim (fun z => Or.inl z) (fun z => Or.inr (Or.inl z))) (Nat.le_refl _))
        have y2 := y1.tr c4.no
        have y3 := y2.tr (c5.mono (G := d_F ((lv, bv, cv, mv), (lt, bt, ct, mt), (ld, bd, cd, md), rs, ts, ds)) (fun q o _ z => z.elim (fun z => Or.inr (Or.inr (Or.inr (Or.inr (Or.inl z))))) (fun z => Or.inr (Or.inr (Or.inr (Or.inr (Or.inr (Or.inl z))))))) (Nat.le_refl _))
        exact y3.le (by omega)
      have lw : w.2.1 ≤ u.2.1 := by have := c1.le1; have := c2.le1; have := cu.le1; omega
      refine H u5 (l3, (lt, bt, ct, mt), l5, rs ++ [r'], ts, ds ++ [bx]) cc ⟨?_, h35, k35, h5, ⟨?_, fun v r0 row g1 g2 => ?_⟩, ⟨k7, fun j t s g1 g2 => ?_⟩, ⟨?_, fun i b0 y g1 g2 => ?_⟩, ⟨b1, b2, b3, ?_, ?_, ?_, ?_, ?_, ?_⟩, ?_, p2, ?_⟩ (fun q hq => ?_) rfl
      · show u5.1 a = some (6, [va_rf (some l3.1), va_rf (some lt), va_rf (some l5.1)])
        rw [e3, e5]
        exact fx _ _ _ k1 (by decide) (by decide)
      · show (rs ++ [r']).length = (D.1 ++ [f]).length
        rw [List.length_append, List.length_append, k5]
        rfl
      · rcases app_at (show (rs ++ [r'])[v]? = some r0 from g1) with ⟨i1, i2⟩ | ⟨i1, i2⟩
        · rcases app_at (show (D.1 ++ [f])[v]? = some row from g2) with ⟨j1, j2⟩ | ⟨j1, j2⟩
          · exact fx _ _ _ (k6 v r0 row i2 j2) (by decide) (by decide)
          · omega
        · rcases app_at (show (D.1 ++ [f])[v]? = some row from g2) with ⟨j1, j2⟩ | ⟨j1, j2⟩
          · omega
          · subst i2
            subst j2
            exact fx _ _ _ hri (by decide) (by decide)
      · obtain ⟨c, t1, t2⟩ := k8 j t s g1 g2
        obtain ⟨b', y2, y3, t3, t4, t5⟩ := t2
        exact ⟨c, fx _ _ _ t1 (by decide) (by decide), b', y2, y3, fx _ _ _ t3 (by decide) (by decide), fx _ _ _ t4 (by decide) (by decide), t5⟩
      · show (ds ++ [bx]).length = (D.2.2 ++ [date]).length
        rw [List.length_append, List.length_append, k9]
        rfl
      · rcases app_at (show (ds ++ [bx])[i]? = some b0 from g1) with ⟨i1, i2⟩ | ⟨i1, i2⟩
        · rcases app_at (show (D.2.2 ++ [date])[i]? = some y from g2) with ⟨j1, j2⟩ | ⟨j1, j2⟩
          · exact fx _ _ _ (k10 i b0 y i2 j2) (by decide) (by decide)
          · omega
        · rcases app_at (show (D.2.2 ++ [date])[i]? = some y from g2) with ⟨j1, j2⟩ | ⟨j1, j2⟩
          · omega
          · subst i2
            subst j2
            exact fx5 _ _ _ hbx (by decide) (by decide)
      · show l3.1 ≠ lt
        rw [e3]; exact n1
      · show l3.1 ≠ l5.1
        rw [e3, e5]; exact n2
      · show lt ≠ l5.1
        rw [e5]; exact n3
      · show l3.2.1 ≠ bt
        rcases o3 with ⟨t1, -⟩ | ⟨t1, -⟩
        · rw [t1]; exact n4
        · omega
      · show l3.2.1 ≠ l5.2.1
        rcases o3 with ⟨t1, -⟩ | ⟨t1, t2⟩
        · rcases o5 with ⟨t3, -⟩ | ⟨t3, -⟩
          · rw [t1, t3]; exact n5
          · omega
        · rcases o5 with ⟨t3, -⟩ | ⟨t3, -⟩
          · omega
          · omega
      · show bt ≠ l5.2.1
        rcases o5 with ⟨t3, -⟩ | ⟨t3, -⟩
        · rw [t3]; exact n6
        · omega
      · show 2 * l3.2.2.1 ≤ 3 * (rs ++ [r']).length + 20
        rw [List.length_append]; exact q3
      · show 2 * l5.2.2.1 ≤ 3 * (ds ++ [bx]).length + 20
        rw [List.length_append]; exact q5
      · rcases hq with z | ⟨z, zc⟩ | z | ⟨z, zc⟩ | z | ⟨z, zc⟩ | z
        · exact Or.inl (Or.inl (z.trans e3))
        · have z : q = l3.2.1 := z
          have zc : 0 < l3.2.2.1 := zc
          rcases o3 with ⟨t1, t2, -⟩ | ⟨t1, -⟩
          · exact Or.inl (Or.inr (Or.inl ⟨z.trans t1, by show 0 < cv; omega⟩))
          · exact Or.inr (by omega)
        · exact Or.inl (Or.inr (Or.inr (Or.inl z)))
        · exact Or.inl (Or.inr (Or.inr (Or.inr (Or.inl ⟨z, zc⟩))))
        · exact Or.inl (Or.inr (Or.inr (Or.inr (Or.inr (Or.inl (z.trans e5))))))
        · have z : q = l5.2.1 := z
          have zc : 0 < l5.2.2.1 := zc
          rcases o5 with ⟨t1, t2, -⟩ | ⟨t1, -⟩
          · exact Or.inl (Or.inr (Or.inr (Or.inr (Or.inr (Or.inr (Or.inl ⟨z.trans t1, by show 0 < cd; omega⟩))))))
          · exact Or.inr (by omega)
        · exact Or.inl (Or.inr (Or.inr (Or.inr (Or.inr (Or.inr (Or.inr z))))))
    | succ g ih =>
      intro k u hkk cu hku hri
      obtain ⟨j, hj⟩ := dc_get (l := f) (i := k) (by omega)
      have hjl := hf j (List.mem_of_getElem? hj)
      have hku0 := hku
      obtain ⟨k1, k2, k3, k4, ⟨k5, k6⟩, ⟨k7, k8⟩, ⟨k9, k10⟩, k11⟩ := hku0
      obtain ⟨t, ht⟩ := dc_get (l := x.2.2.2.2.1) (i := j) (by omega)
      obtain ⟨s, hs⟩ := dc_get (l := D.2.1) (i := j) hjl
      obtain ⟨c, hc1, hc2⟩ := k8 j t s ht hs
      refine s_X7_edits_22 _ _ _ _ _ _ (ifF (by rw [iI_len (by omega) (by omega)]; omega) (dq_aldi hri hj hfl ⟨a, _, _, rfl, k1, rfl, x.2.1.1, _, rfl, k3.1, cl_get_ok (x := some t) (by omega) k3 (by rw [List.getElem?_map, ht]; rfl) ⟨Or.inr ⟨t, 7, _, rfl, hc1, c_canT⟩, t, _, _, rfl, hc1, rfl, hku.many (by omega) ?_⟩⟩))
      have hbt := k11.1.2.2.1 t (List.mem_of_getElem? ht)
      refine ⟨t, _, rfl, hc1, hbt, ?_⟩
      obtain ⟨ct, hkt⟩ := hku.tokset (y := s_or (ed_X D f k j) (s_bit D.1.length)) cu.ok ht ⟨c, hc1, rfl⟩
      have hX : (fun i => if i = j then s_or (ed_X D f k j) (s_bit D.1.length) else ed_X D f k i) = ed_X D f (k + 1) := by
        have hjk : j ∉ f.take k := by
          intro hm
          obtain ⟨i, hi⟩ := List.getElem?_of_mem hm
          have hik : i < k := by have := (List.getElem?_eq_some_iff.mp hi).1; simp at this; omega
          rw [List.getElem?_take_of_lt hik] at hi
          obtain ⟨p1, p2⟩ := List.getElem?_eq_some_iff.mp hi
          obtain ⟨q1, q2⟩ := List.getElem?_eq_some_iff.mp hj
          have := (List.getElem_inj hnd).mp (p2.trans q2.symm)
          omega
        funext i
        unfold ed_X
        rw [take_s hj]
        by_cases q : i = j
        · subst q
          rw [if_pos rfl, if_neg hjk, if_pos (by simp)]
        · rw [if_neg q]
          by_cases y : i ∈ f.take k
          · rw [if_pos y, if_pos (List.mem_append_left _ y)]
          · rw [if_neg y, if_neg (by rw [List.mem_append, List.mem_singleton]; exact fun z => z.elim y q)]
      rw [hX] at hkt
      show pw_Wp E m_X7_edits (e + 1) 22 [some (va_rf (some a)), none, some (.int (iI date)), some (va_rf (some r')), some (va_rf (some r')), some (.int (iI (f.length : Nat))), some (.int (iI (k : Nat) + 1)), none] [] (pw_up u t (7, [va_rf (some c), .int (iI (ed_X D f k j) ||| (1 <<< (iI (D.1.length : Nat) &&& 31)))])) (c_v K)
      rw [iI_orb, iI_ad1]
      refine ih (k + 1) _ (by omega) ((cu.tr ct).le (by omega)) hkt ?_
      show (pw_up u t _).1 r' = _
      rw [pw_up_ne (by rintro rfl; have h := hri; unfold c_ints at h; rw [hc1] at h; cases h)]
      exact hri
  exact key f.length 0 w2 (by omega) (cx.refl c2.ok) hk2 hr2
end
