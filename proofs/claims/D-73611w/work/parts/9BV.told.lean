set_option maxRecDepth 100000
/-! the component: words told -/
section
variable {E : pw_E} {d : Nat} {w w' : pw_W} {a : Nat} {D : dc} {X : Nat → Int} {x : dX}
theorem c_canTO : pw_can 7 "java/lang/Object" := Or.inl ⟨_, rfl, by decide, Or.inr q3235⟩
/-- a token, made, joins the others -/
theorem cd_addtok {t c : Nat} {s : List Int} {Q : Bool → pw_W → Prop} (hd : 7 ≤ d) (hw : wf E w) (hk : c_dX E w.1 a D X x) (ht : w.1 t = some (7, [va_rf (some c), .int (iI (X D.2.1.length))])) (hc : c_str w.1 c s) (hb : pw_base E ≤ t) (hnt : t ∉ x.2.2.2.2.1) (hl : D.2.1.length ≤ 1000)
    (H : ∀ (u : pw_W) (x' : dX) (cc : Nat), cx E w u (fun q => q = x.2.1.1 ∨ (q = x.2.1.2.1 ∧ 0 < x.2.1.2.2.1)) cc → cc + 8 * x.2.1.2.2.1 ≤ 8 * x'.2.1.2.2.1 → c_dX E u.1 a (D.1, D.2.1 ++ [s], D.2.2) X x' → x'.2.1.1 = x.2.1.1 → (∀ q, d_F x' q → d_F x q ∨ w.2.1 ≤ q ∨ q = t) → x'.2.2.2.2.1 = x.2.2.2.2.1 ++ [t] → x'.1 = x.1 ∧ x'.2.2.1 = x.2.2.1 → Q true u) : f_V E w (some x.2.1.1) 18 m_J2_add d [va_rf (some t)] (c_z Q) := by
  obtain ⟨⟨lv, bv, cv, mv⟩, ⟨lt, bt, ct, mt⟩, ⟨ld, bd, cd, md⟩, rs, ts, ds⟩ := x
  obtain ⟨k1, k2, k3, k4, ⟨k5, k6⟩, ⟨k7, k8⟩, ⟨k9, k10⟩, ⟨b1, b2, b3, n1, n2, n3, n4, n5, n6⟩, p1, p2, p3⟩ := hk
  dsimp only at k1 k2 k3 k4 k5 k6 k7 k8 k9 k10 b2 b3 n1 n2 n3 n4 n5 n6 p1 p2 p3 hnt
  obtain ⟨v2, -, B2, -⟩ := c_al.use hw k2
  obtain ⟨v3, -, B3, -⟩ := c_al.use hw k3
  obtain ⟨v4, -, B4, -⟩ := c_al.use hw k4
  have A2 := k2.1
  have A3 := k3.1
  have A4 := k4.1
  dsimp only at A2 A3 A4 B2 B3 B4
  have nek : ∀ (p q kp kq : Nat) (us vs : List Value), w.1 p = some (kp, us) → w.1 q = some (kq, vs) → kp ≠ kq → p ≠ q := by
    rintro p q kp kq us vs h1 h2 h3 rfl
    rw [h1] at h2
    cases h2
    exact h3 rfl
  have lb2 := hw.lt B2
  have lb4 := hw.lt B4
  refine lX_add_ok (l := (lt, bt, ct, mt)) hd hw k3 (by dsimp only; omega) (by omega) (fun z hz => ?_) (fun u l' cc c' _ cb h' e' o' q' => ?_)
  · rcases List.mem_cons.mp hz with rfl | hz
    · exact ⟨7, _, ht, c_canTO⟩
    · obtain ⟨j, hj⟩ := List.getElem?_of_mem hz
      obtain ⟨s', hs'⟩ := dc_get (l := D.2.1) (i := j) (by have := (List.getElem?_eq_some_iff.mp hj).1; omega)
      obtain ⟨c', h1, -⟩ := k8 j z s' hj hs'
      exact ⟨7, _, h1, c_canTO⟩
  dsimp only at c' e' o' q' cb
  have fx : ∀ (q k : Nat) (us : List Value), w.1 q = some (k, us) → k ≠ 18 → k ≠ 1003 → u.1 q = some (k, us) := fun q k us hq hk1 hk2 => c'.keep hq (fun z => z.elim (fun z => nek _ _ _ _ _ _ hq A3 hk1 z) (fun z => nek _ _ _ _ _ _ hq B3 hk2 z.1))
  have kl : ∀ (l b c0 : Nat) (m0 : Int32) (xs : List Nat) (vs : List Value), c_lX E w.1 (l, b, c0, m0) xs → w.1 b = some (1003, vs) → l ≠ lt → b ≠ bt → c_lX E u.1 (l, b, c0, m0) xs := by
    intro l b c0 m0 xs vs h1 h2 h3 h4
    have A := h1.1
    dsimp only at A
    exact h1.keep c' (fun z => z.elim (fun z => h3 z) (fun z => nek _ _ _ _ _ _ A B3 (by decide) z.1)) (fun _ z => z.elim (fun z => nek _ _ _ _ _ _ h2 A3 (by decide) z) (fun z => h4 z.1))
  have tk : ∀ (t : Nat) (s : List Int) (y : Int), c_tok w.1 w.1 t s y → c_tok u.1 u.1 t s y := by
    rintro t s y ⟨c, t1, b', y2, y3, t3, t4, t5⟩
    exact ⟨c, fx _ _ _ t1 (by decide) (by decide), b', y2, y3, fx _ _ _ t3 (by decide) (by decide), fx _ _ _ t4 (by decide) (by decide), t5⟩
  refine H u ((lv, bv, cv, mv), l', (ld, bd, cd, md), rs, ts ++ [t], ds) cc c' cb ⟨?_, kl _ _ _ _ _ _ k2 B2 n1 n4, h', kl _ _ _ _ _ _ k4 B4 (Ne.symm n3) (Ne.symm n6), ⟨k5, fun v r row g1 g2 => fx _ _ _ (k6 v r row g1 g2) (by decide) (by decide)⟩, ⟨?_, fun j t' s' g1 g2 => ?_⟩, ⟨k9, fun i b0 y g1 g2 => fx _ _ _ (k10 i b0 y g1 g2) (by decide) (by decide)⟩, ⟨b1, ?_, fun z hz => ?_, ?_, n2, ?_, ?_, n5, ?_⟩, p1, ?_, p3⟩ e' (fun q hq => ?_) rfl ⟨rfl, rfl⟩
  · show u.1 a = some (6, [va_rf (some lv), va_rf (some l'.1), va_rf (some ld)])
    rw [e']
    exact fx _ _ _ k1 (by decide) (by decide)
  · show (ts ++ [t]).length = (D.2.1 ++ [s]).length
    rw [List.length_append, List.length_append, k7]
    rfl
  · rcases app_at (show (ts ++ [t])[j]? = some t' from g1) with ⟨i1, i2⟩ | ⟨i1, i2⟩
    · rcases app_at (show (D.2.1 ++ [s])[j]? = some s' from g2) with ⟨j1, j2⟩ | ⟨j1, j2⟩
      · exact tk _ _ _ (k8 j t' s' i2 j2)
      · omega
    · rcases app_at (show (D.2.1 ++ [s])[j]? = some s' from g2) with ⟨j1, j2⟩ | ⟨j1, j2⟩
      · omega
      · subst i2
        subst j2
        subst j1
        exact tk _ _ _ ⟨c, ht, hc⟩
  · show (ts ++ [t]).Nodup
    rw [List.nodup_append]
    refine ⟨b2, by simp, fun z hz y hy => ?_⟩
    rw [List.mem_singleton] at hy
    subst hy
    rintro rfl
    exact hnt hz
  · rcases List.mem_append.mp (show z ∈ ts ++ [t] from hz) with hz | hz
    · exact b3 z hz
    · rw [List.mem_singleton] at hz
      subst hz
      exact hb
  · show lv ≠ l'.1
    rw [e']; exact n1
  · show l'.1 ≠ ld
    rw [e']; exact n3
  · show bv ≠ l'.2.1
    rcases o' with ⟨t1, -⟩ | ⟨t1, -⟩
    · rw [t1]; exact n4
    · omega
  · show l'.2.1 ≠ bd
    rcases o' with ⟨t1, -⟩ | ⟨t1, -⟩
    · rw [t1]; exact n6
    · omega
  · show 2 * l'.2.2.1 ≤ 3 * (ts ++ [t]).length + 20
    rw [List.length_append]; exact q'
  · rcases hq with z | ⟨z, zc⟩ | z | ⟨z, zc⟩ | z | ⟨z, zc⟩ | z
    · exact Or.inl (Or.inl z)
    · exact Or.inl (Or.inr (Or.inl ⟨z, zc⟩))
    · exact Or.inl (Or.inr (Or.inr (Or.inl (z.trans e'))))
    · have z : q = l'.2.1 := z
      have zc : 0 < l'.2.2.1 := zc
      rcases o' with ⟨t1, t2, -⟩ | ⟨t1, -⟩
      · exact Or.inl (Or.inr (Or.inr (Or.inr (Or.inl ⟨z.trans t1, by show 0 < ct; omega⟩))))
      · exact Or.inr (Or.inl (by omega))
    · exact Or.inl (Or.inr (Or.inr (Or.inr (Or.inr (Or.inl z)))))
    · exact Or.inl (Or.inr (Or.inr (Or.inr (Or.inr (Or.inr (Or.inl ⟨z, zc⟩))))))
    · rcases List.mem_append.mp (show q ∈ ts ++ [t] from z) with z | z
      · exact Or.inl (Or.inr (Or.inr (Or.inr (Or.inr (Or.inr (Or.inr z))))))
      · rw [List.mem_singleton] at z
        exact Or.inr (Or.inr z)
end
