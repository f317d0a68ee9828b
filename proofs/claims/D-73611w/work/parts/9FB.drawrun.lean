set_option maxRecDepth 100000
/-! the component: changes drawn, one after another -/
/-- the documents, the seed, the date behind one change -/
def dd (Ds : List dc) (s t : Int) : List dc × Int × Int := (Ds.set (d_val s Ds.length).toNat (dw_on (da_D Ds (d_val s Ds.length).toNat) t (dw (da_D Ds (d_val s Ds.length).toNat) (d_next s)).1), (dw (da_D Ds (d_val s Ds.length).toNat) (d_next s)).2, dw_t (da_D Ds (d_val s Ds.length).toNat) t (dw (da_D Ds (d_val s Ds.length).toNat) (d_next s)).1)
def dd_run (Ds : List dc) (s t : Int) : Nat → List dc × Int × Int
  | 0 => (Ds, s, t)
  | k + 1 => dd (dd_run Ds s t k).1 (dd_run Ds s t k).2.1 (dd_run Ds s t k).2.2
theorem dw_t_r (D : dc) (t : Int) (e : Option (Nat × Nat × Nat × List (List Int))) : t ≤ dw_t D t e ∧ dw_t D t e ≤ t + 1 := by
  unfold dw_t
  cases e with
  | none => exact ⟨Int.le_refl _, by show t ≤ t + 1; omega⟩
  | some e =>
    show t ≤ (if D.1.length = 10 then t else t + 1) ∧ (if D.1.length = 10 then t else t + 1) ≤ t + 1
    split <;> omega
theorem dd_run_len (Ds : List dc) (s t : Int) : ∀ k, (dd_run Ds s t k).1.length = Ds.length
  | 0 => rfl
  | k + 1 => by
    show ((dd_run Ds s t k).1.set _ _).length = _
    rw [List.length_set]
    exact dd_run_len Ds s t k
section
variable {A : Nat → Int} {Ds : List dc} {g : Nat → Nat → Nat} {i : Nat} {D : dc} {t s date : Int}
theorem rl_ok.tlen (h : rl_ok A Ds g) (hi : Ds[i]? = some D) : (D.2.1.length : Int) ≤ A 5 := by
  have inc := (h.1.2.1 i D hi).2.2
  have ge : ∀ j, j < D.2.1.length → j ≤ g i j := by
    intro j
    induction j with
    | zero => intro _; omega
    | succ j ih =>
      intro hj
      have := ih (by omega)
      have := inc j (j + 1) (by omega) hj
      omega
  by_cases z : D.2.1.length = 0
  · have := h.n5; omega
  · obtain ⟨s, hs⟩ := dc_get (l := D.2.1) (i := D.2.1.length - 1) (by omega)
    have := (h.tok hi hs).2.2.1
    have := ge (D.2.1.length - 1) (by omega)
    omega
theorem rl_ok.run (h : rl_ok A Ds g) (h5 : A 5 ≤ 279) (h1 : 1 ≤ Ds.length) (ht : 0 ≤ t ∧ t ≤ 100) (hdate : rI date) : ∀ k : Nat, k ≤ 40 → (∃ g', rl_ok (d_run A s date k).1 (dd_run Ds s t k).1 g') ∧ (d_run A s date k).1 5 ≤ A 5 + k ∧ (d_run A s date k).2 = (dd_run Ds s t k).2.1 ∧ 0 ≤ (dd_run Ds s t k).2.2 ∧ (dd_run Ds s t k).2.2 ≤ t + k := by
  intro k
  induction k with
  | zero => intro _; exact ⟨⟨g, h⟩, by show A 5 ≤ A 5 + ((0 : Nat) : Int); omega, rfl, ht.1, by show t ≤ t + ((0 : Nat) : Int); omega⟩
  | succ k ih =>
    intro hk
    obtain ⟨⟨g', hr⟩, h5', hs, ht1, ht2⟩ := ih (by omega)
    have hlen := dd_run_len Ds s t k
    have vr := d_val_r (s := (dd_run Ds s t k).2.1) (n := (dd_run Ds s t k).1.length) (by have := hr.A0.2.2; omega)
    have hD := hr.D0 (i := (d_val (dd_run Ds s t k).2.1 (dd_run Ds s t k).1.length).toNat) (by omega)
    have hdoc : d_doc (d_run A s date k).1 (d_run A s date k).2 = ((d_val (dd_run Ds s t k).2.1 (dd_run Ds s t k).1.length).toNat : Nat) := by
      unfold d_doc
      rw [hs, hr.A0.1]
      omega
    obtain ⟨⟨g2, d1, d2⟩, d3⟩ := hr.draw (s := (d_run A s date k).2) (t := (dd_run Ds s t k).2.2) (by omega) hD hdoc ⟨ht1, by omega⟩ hdate
    rw [hs] at d1 d2 d3
    have tr := dw_t_r (da_D (dd_run Ds s t k).1 (d_val (dd_run Ds s t k).2.1 (dd_run Ds s t k).1.length).toNat) (dd_run Ds s t k).2.2 (dw (da_D (dd_run Ds s t k).1 (d_val (dd_run Ds s t k).2.1 (dd_run Ds s t k).1.length).toNat) (d_next (dd_run Ds s t k).2.1)).1
    refine ⟨⟨g2, ?_⟩, ?_, ?_, ?_, ?_⟩
    · show rl_ok (d_chgA (d_run A s date k).1 (d_run A s date k).2 date) _ g2
      rw [hs]
      exact d1
    · show d_chgA (d_run A s date k).1 (d_run A s date k).2 date 5 ≤ _
      rw [hs]
      omega
    · show d_chgS (d_run A s date k).1 (d_run A s date k).2 = _
      rw [hs]
      exact d3
    · show 0 ≤ dw_t _ _ _
      omega
    · show dw_t _ _ _ ≤ _
      omega
theorem a_T_toks (h : rl_ok A Ds g) : (a_T Ds : Int) = A 5 := by
  rw [h.toks]
  have : ∀ k, k ≤ Ds.length → (a_T (Ds.take k) : Int) = sm k (fun i => ((da_D Ds i).2.1.length : Int)) := by
    intro k
    induction k with
    | zero => intro _; rfl
    | succ k ih =>
      intro hk
      have hD := h.D0 (i := k) (by omega)
      rw [take_s hD, a_T_app, sm_s, ← ih (by omega)]
      omega
  have := this Ds.length (Nat.le_refl _)
  rw [List.take_length] at this
  exact this
end
section
variable {E : pw_E} {d : Nat} {w : pw_W} {a b dr i n : Nat} {Ds : List dc} {t s : Int} {l : lX} {as : List Nat} {xs : List dX}
theorem c_aX.P {h : pw_H} (k : c_aX E h a Ds t l as xs) : a_P xs ≤ 12 * a_T Ds + 80 * Ds.length := by
  obtain ⟨-, -, ⟨k3, k4⟩, k5, -⟩ := k
  have : ∀ k, k ≤ Ds.length → a_P (xs.take k) ≤ 12 * a_T (Ds.take k) + 80 * k := by
    intro k
    induction k with
    | zero => intro _; exact Nat.le_refl _
    | succ k ih =>
      intro hk
      obtain ⟨D, hD⟩ := dc_get (l := Ds) (i := k) (by omega)
      obtain ⟨x, hx⟩ := dc_get (l := xs) (i := k) (by omega)
      obtain ⟨b, hb⟩ := dc_get (l := as) (i := k) (by omega)
      obtain ⟨-, -, -, -, -, ⟨q1, -⟩, -, -, -, q2, -⟩ := k5 k b D x hb hD hx
      rw [take_s hx, take_s hD, a_P_app, a_T_app]
      have := ih (by omega)
      omega
  have := this Ds.length (Nat.le_refl _)
  rw [List.take_length, ← k4, List.take_length] at this
  rw [← k4]
  exact this
theorem dr_init_ok {x0 x1 : Value} {K : pw_W → Prop} (hd : 120 ≤ d) (hw : wf E w) (h : c_arch E w.1 w.1 b Ds t) (hD : da_ok Ds) (h1 : 1 ≤ Ds.length) (hdr : w.1 dr = some (17, [x0, x1])) (hbd : pw_base E ≤ dr) (hn : n ≤ 40)
    (hrun : ∀ k : Nat, k ≤ n → (∃ A' g', rl_ok A' (dd_run Ds s t k).1 g') ∧ 0 ≤ (dd_run Ds s t k).2.2 ∧ (dd_run Ds s t k).2.2 ≤ 1000)
    (H : ∀ (u : pw_W) (a : Nat) (v : Value), cx E w u (fun q => q = dr) 40000 → u.1 dr = some (17, [va_rf (some a), v]) → c_arch E u.1 u.1 a (dd_run Ds s t n).1 (dd_run Ds s t n).2.2 → K u) : pw_Cl E m_X18_init d [va_rf (some dr), va_rf (some b), .int (iI s), .int (iI (n : Nat))] w (c_v K) := by
  replace hd := pw_d1 hd; obtain ⟨e, rfl, hd⟩ := hd
  obtain ⟨us, hus⟩ := h.obj
  have hbb := hw.b
  have hlt := hw.lt hdr
  have aT : a_T Ds ≤ 319 := by
    obtain ⟨⟨A', g', hr⟩, -⟩ := hrun 0 (by omega)
    have hr : rl_ok A' Ds g' := hr
    have := a_T_toks hr
    have := hr.n5
    omega
  have hl4 := hD.1
  refine e_X18_init _ _ _ _ (s_X18_init_0 _ _ _ _ ⟨b, us, rfl, hus, ca_copy_ok (by omega) hw h hD (fun u l as xs cc cu hcc hX hF => ?_)⟩)
  have hdr1 := cu.at hdr
  have c2 := cx.up (F := fun q => q = dr) cu.ok (17, [va_rf (some w.2.1), x1]) hdr1 hbd rfl
  have c3 := cx.up (F := fun q => q = dr) c2.ok (17, [va_rf (some w.2.1), .int (iI s)]) (pw_up_1 _ _ _) hbd rfl
  refine ⟨dr, _, rfl, hdr1, hbd, dr, _, rfl, pw_up_1 _ _ _, hbd, ?_⟩
  have hdr3 : (pw_up (pw_up u dr (17, [va_rf (some w.2.1), x1])) dr (17, [va_rf (some w.2.1), .int (iI s)])).1 dr = some (17, [va_rf (some w.2.1), .int (iI s)]) := pw_up_1 _ _ _
  have hX3 : c_aX E (pw_up (pw_up u dr (17, [va_rf (some w.2.1), x1])) dr (17, [va_rf (some w.2.1), .int (iI s)])).1 w.2.1 Ds t l as xs := hX.keep cu.ok (c2.tr c3) (fun q hq e => by have := hF q hq; have e : q = dr := e; omega) (fun q o ho e => by
    have e : q = dr := e
    subst e
    rw [hdr1] at ho; cases ho
    exact ⟨(by decide : (17 : Nat) ≠ 6), (by decide : (17 : Nat) ≠ 1000), (by decide : (17 : Nat) ≠ 21), (by decide : (17 : Nat) ≠ 1001), (by decide : (17 : Nat) ≠ 28)⟩)
  have c13 : cx E w (pw_up (pw_up u dr (17, [va_rf (some w.2.1), x1])) dr (17, [va_rf (some w.2.1), .int (iI s)])) (fun q => q = dr) cc := (cu.no.tr (c2.tr c3)).le (by omega)
  show pw_Wp E m_X18_init (e + 1) 20 [some (va_rf (some dr)), none, none, some (.int (iI (n : Nat))), some (.int 0)] [] (pw_up (pw_up u dr (17, [va_rf (some w.2.1), x1])) dr (17, [va_rf (some w.2.1), .int (iI s)])) _
  generalize pw_up (pw_up u dr (17, [va_rf (some w.2.1), x1])) dr (17, [va_rf (some w.2.1), .int (iI s)]) = w3 at hdr3 hX3 c13 ⊢
  clear c2 c3
  have key : ∀ (f k : Nat) (v : pw_W) (xs : List dX) (cc : Nat), k + f = n → cx E w v (fun q => q = dr) cc → cc ≤ a_P xs + 6 * a_T Ds + 600 + 300 * k → v.1 dr = some (17, [va_rf (some w.2.1), .int (iI (dd_run Ds s t k).2.1)]) → c_aX E v.1 w.2.1 (dd_run Ds s t k).1 (dd_run Ds s t k).2.2 l as xs → (∀ q, a_F w.2.1 l xs q → w.2.1 ≤ q) → pw_Wp E m_X18_init (e + 1) 20 [some (va_rf (some dr)), none, none, some (.int (iI (n : Nat))), some (.int (iI (k : Nat)))] [] v (c_v K) := by
    intro f
    induction f with
    | zero =>
      intro k v xs cc hk cv hcc hdrv hXv hFv
      have hk : k = n := by omega
      subst hk
      refine s_X18_init_20 _ _ _ (ifT (Int32.le_refl _) ⟨rfl, H v w.2.1 _ (cv.le ?_) hdrv hXv.arch⟩)
      have hP := hXv.P
      obtain ⟨⟨A', g', hr⟩, -⟩ := hrun k (Nat.le_refl _)
      have := a_T_toks hr
      have := hr.n5
      have := dd_run_len Ds s t k
      omega
    | succ f ih =>
      intro k v xs cc hk cv hcc hdrv hXv hFv
      have lk : (iI (n : Nat) ≤ iI (k : Nat)) = ((n : Int) ≤ (k : Nat)) := iI_le (rI_small (by omega) (by omega)) (rI_small (by omega) (by omega))
      obtain ⟨⟨A', g', hr⟩, ht1, ht2⟩ := hrun k (by omega)
      have hlen := dd_run_len Ds s t k
      have hA := hXv.arch
      obtain ⟨ua, hua⟩ := hA.obj
      have l0 : (iI ((dd_run Ds s t k).1.length : Nat) ≤ 0) = (((dd_run Ds s t k).1.length : Int) ≤ 0) := iI_le (b := 0) (rI_small (by omega) (by omega)) (rI_small (by omega) (by omega))
      refine s_X18_init_20 _ _ _ (ifF (by rw [lk]; omega) ⟨dr, _, _, rfl, hdrv, rfl, w.2.1, ua, rfl, hua, ca_many_ok (by omega) hA (ifF (by rw [l0]; omega) ⟨dr, _, _, rfl, hdrv, rfl, dr, _, _, rfl, hdrv, rfl, w.2.1, ua, rfl, hua, ca_many_ok (by omega) hA ⟨dr, _, rfl, hdrv, dr_below_ok (n := (dd_run Ds s t k).1.length) (by omega) cv.ok hbd (by omega) hdrv (fun v1 c1 n1 hdr1 => ?_)⟩⟩)⟩)
      have vr := d_val_r (s := (dd_run Ds s t k).2.1) (n := (dd_run Ds s t k).1.length) (by omega)
      have ev : iI (d_val (dd_run Ds s t k).2.1 (dd_run Ds s t k).1.length) = iI (((d_val (dd_run Ds s t k).2.1 (dd_run Ds s t k).1.length).toNat : Nat) : Int) := by rw [show (((d_val (dd_run Ds s t k).2.1 (dd_run Ds s t k).1.length).toNat : Nat) : Int) = d_val (dd_run Ds s t k).2.1 (dd_run Ds s t k).1.length by omega]
      rw [ev]
      have hDi := hr.D0 (i := (d_val (dd_run Ds s t k).2.1 (dd_run Ds s t k).1.length).toNat) (by omega)
      have hX1 : c_aX E v1.1 w.2.1 (dd_run Ds s t k).1 (dd_run Ds s t k).2.2 l as xs := hXv.keep cv.ok c1 (fun q hq e => by have := hFv q hq; have e : q = dr := e; omega) (fun q o ho e => by
        have e : q = dr := e
        subst e
        rw [hdrv] at ho; cases ho
        exact ⟨(by decide : (17 : Nat) ≠ 6), (by decide : (17 : Nat) ≠ 1000), (by decide : (17 : Nat) ≠ 21), (by decide : (17 : Nat) ≠ 1001), (by decide : (17 : Nat) ≠ 28)⟩)
      obtain ⟨g1, g2, g3, g4, g5, g6, g7⟩ := hr.da.at hDi
      have h20 : dc_last (da_D (dd_run Ds s t k).1 (d_val (dd_run Ds s t k).2.1 (dd_run Ds s t k).1.length).toNat) ≤ 20 := by
        obtain ⟨row, r1, r2, r3⟩ := dc_lastR g4 g5
        rw [r3]
        exact (hr.rw1 hDi r1).2.1
      have htl := hr.tlen hDi
      have hn5 := hr.n5
      obtain ⟨⟨A2, g2', hr2⟩, -⟩ := hrun (k + 1) (by omega)
      have hr2 : rl_ok A2 ((dd_run Ds s t k).1.set (d_val (dd_run Ds s t k).2.1 (dd_run Ds s t k).1.length).toNat (dw_on (da_D (dd_run Ds s t k).1 (d_val (dd_run Ds s t k).2.1 (dd_run Ds s t k).1.length).toNat) (dd_run Ds s t k).2.2 (dw (da_D (dd_run Ds s t k).1 (d_val (dd_run Ds s t k).2.1 (dd_run Ds s t k).1.length).toNat) (d_next (dd_run Ds s t k).2.1)).1)) g2' := hr2
      have cv1 : cx E w v1 (fun q => q = dr) cc := (cv.tr c1).le (by omega)
      refine ⟨w.2.1, _, rfl, hX1.1.1, ?_⟩
      obtain ⟨bi, x, hbi, hxi, hki⟩ := hX1.at hDi
      obtain ⟨e1, rfl, -⟩ := pw_d1 (show 0 + 1 ≤ e by omega)
      refine e_X5_of _ _ (s_X5_of_0 _ _ ⟨w.2.1, _, _, rfl, hX1.1.1, rfl, l.1, _, rfl, hX1.2.1.1, cl_get_ok (x := some bi) (by omega) hX1.2.1 (by rw [List.getElem?_map, hbi]; rfl) ⟨Or.inr ⟨bi, 6, _, rfl, hki.1, c_canD⟩, _, rfl, ?_⟩⟩)
      refine ⟨dr, _, rfl, hdr1, dr_one_ok (by omega) c1.ok hX1 hdr1 hbd hDi hbi g4 g5 g6 h20 (by omega) ⟨ht1, ht2⟩ (fun row hrow => ?_) (fun u xs' c9 cu hc9 hdru hXu hFu => ?_)⟩
      · obtain ⟨v9, hv9⟩ := List.getElem?_of_mem hrow
        have hset := List.getElem?_set_self (l := (dd_run Ds s t k).1) (i := (d_val (dd_run Ds s t k).2.1 (dd_run Ds s t k).1.length).toNat) (a := dw_on (da_D (dd_run Ds s t k).1 (d_val (dd_run Ds s t k).2.1 (dd_run Ds s t k).1.length).toNat) (dd_run Ds s t k).2.2 (dw (da_D (dd_run Ds s t k).1 (d_val (dd_run Ds s t k).2.1 (dd_run Ds s t k).1.length).toNat) (d_next (dd_run Ds s t k).2.1)).1) (by omega)
        obtain ⟨y1, y2, y3, y4, y5, y6, y7⟩ := hr2.rw1 hset hv9
        exact ⟨y7, y2, y6⟩
      · have cwu : cx E w u (fun q => q = dr) (cc + c9) := cx.tn hw cv1 cu (fun q hq => hq.elim Or.inl (fun hq => Or.inr (hFv q hq)))
        have ek : iI (k : Nat) + 1 = iI ((k + 1 : Nat) : Int) := by rw [iI_a1]; rfl
        rw [ek]
        refine ih (k + 1) u xs' (cc + c9) (by omega) cwu (by omega) hdru hXu (fun q hq => ?_)
        rcases hFu q hq with h9 | h9
        · exact hFv q h9
        · have := cv1.le1; omega
  exact key n 0 w3 xs cc (by omega) c13 (by omega) hdr3 hX3 hF
end
