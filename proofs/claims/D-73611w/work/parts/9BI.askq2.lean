set_option maxRecDepth 100000
/-! the component: questions compared -/
theorem dc_asOf_r (D : dc) (x : Int) : -1 ≤ dc_asOf D x ∧ dc_asOf D x < D.1.length := by
  have : ∀ n : Nat, -1 ≤ upto n (fun v (at' : Int) => if x < D.2.2.getD v 0 then at' else (v : Int)) (-1) ∧ upto n (fun v (at' : Int) => if x < D.2.2.getD v 0 then at' else (v : Int)) (-1) < n := by
    intro n
    induction n with
    | zero => exact ⟨Int.le_refl _, by show (-1 : Int) < 0; omega⟩
    | succ n ih =>
      rw [upto_s]
      split <;> omega
  exact this _
theorem dk_sum_r {Ds : List dc} (hD : da_ok Ds) (φ : Nat → Nat → Bool) : 0 ≤ da_sum Ds (fun i v => if φ i v = true then 1 else 0) ∧ da_sum Ds (fun i v => if φ i v = true then 1 else 0) ≤ 40 := by
  have inn : ∀ (i : Nat) (n : Nat) (y : Int), y ≤ upto n (fun v (n : Int) => n + (if φ i v = true then 1 else 0)) y ∧ upto n (fun v (n : Int) => n + (if φ i v = true then 1 else 0)) y ≤ y + n := by
    intro i n y
    induction n with
    | zero => exact ⟨Int.le_refl _, by show y ≤ y + 0; omega⟩
    | succ n ih =>
      rw [upto_s]
      split <;> omega
  have out : ∀ n : Nat, n ≤ Ds.length → 0 ≤ upto n (fun i (n : Int) => upto (da_D Ds i).1.length (fun v (n : Int) => n + (if φ i v = true then 1 else 0)) n) 0 ∧ upto n (fun i (n : Int) => upto (da_D Ds i).1.length (fun v (n : Int) => n + (if φ i v = true then 1 else 0)) n) 0 ≤ 10 * n := by
    intro n
    induction n with
    | zero => intro _; exact ⟨Int.le_refl _, Int.le_refl _⟩
    | succ n ih =>
      intro hn
      obtain ⟨D, hd1⟩ := dc_get (l := Ds) (i := n) (by omega)
      obtain ⟨g1, g2, g3, g4, g5, g6, g7⟩ := hD.at hd1
      have h1 := ih (by omega)
      rw [upto_s, g3]
      have h2 := inn n D.1.length (upto n (fun i (n : Int) => upto (da_D Ds i).1.length (fun v (n : Int) => n + (if φ i v = true then 1 else 0)) n) 0)
      omega
  have h1 := hD.1
  have h2 := out Ds.length (Nat.le_refl _)
  exact ⟨h2.1, Int.le_trans h2.2 (by omega)⟩
theorem rs_grow {E : pw_E} {p : pw_H} {L : List kE} {Ds : List dc} {u : pw_W} {th : Nat} {t : Int} (hQ : kQ E p th Ds t L) (hI : kI E p L u) : ∃ p' : pw_H, c_sub p p' ∧ kQ E p' th Ds t L ∧ kI E p' L u ∧ ∀ (q : Nat) (o : pw_O), u.1 q = some o → ¬ k_F L q → p' q = some o := by
  obtain ⟨a, al, b, mc, h1, h2, h3, h4, h5⟩ := hQ
  obtain ⟨p', hp'⟩ := rs_ex u.1 (k_F L)
  have hs : c_sub p p' := fun q o hq => (hp' q o).mpr ⟨hI.2.1 q o hq, h1.1.no hq⟩
  have hnF : ∀ q, k_F L q → p' q = none := by
    intro q hq
    cases hz : p' q with
    | none => rfl
    | some x => exact absurd hq ((hp' q x).mp hz).2
  have hP : kP E p' L := by
    refine ⟨fun e he => ?_, h1.1.2⟩
    obtain ⟨b1, b2, m1, m2, m3⟩ := h1.1.1 e he
    exact ⟨b1, b2, hnF _ ⟨e, he, Or.inl rfl⟩, hnF _ ⟨e, he, Or.inr rfl⟩, hs _ _ m3⟩
  exact ⟨p', hs, ⟨a, al, b, mc, h1.ext hs hP, hs _ _ h2, h3.mono hs, h4, h5⟩, ⟨hI.1, fun q o hq => ((hp' q o).mp hq).1, hI.2.2⟩, fun q o g1 g2 => (hp' q o).mpr ⟨g1, g2⟩⟩
theorem kI.back {E : pw_E} {p p' : pw_H} {L : List kE} {u : pw_W} (h : kI E p' L u) (hs : c_sub p p') : kI E p L u := ⟨h.1, hs.trans h.2.1, h.2.2⟩
section
variable {E : pw_E} {d : Nat} {p : pw_H} {L : List kE} {Ds : List dc} {u : pw_W} {th : Nat} {t : Int}
def dk_asOf (Ds : List dc) (φ : Nat → Nat → Bool) (x : Int) : Int := upto Ds.length (fun i s => if (!decide (dc_asOf (da_D Ds i) x = -1) && φ i (dc_asOf (da_D Ds i) x).toNat) = true then s_or s (s_bit i) else s_or s 0) 0
theorem ck_asOf_ok {n : Nat} {x : Int} {e0 : kE} {K : Int32 → pw_W → Prop} (hd : 110 ≤ d) (hQ : kQ E p th Ds t L) (hI : kI E p L u) (hn : L[n]? = some e0) (hx : rI x) (H : ∀ u', kI E p L u' → cx E u u' (k_F L) 0 → u'.2 = u.2 → K (iI (dk_asOf Ds e0.2.2.2.2 x)) u') : pw_Cl E m_X13_asOf d [va_rf (some th), .int (iI (n : Nat)), .int (iI x)] u (c_i K) := by
  replace hd := pw_d1 hd; obtain ⟨e, rfl, hd⟩ := hd
  have hl := hQ.D.1
  refine e_X13_asOf _ _ _ (s_X13_asOf_0 _ _ _ ?_)
  have key : ∀ (f i : Nat) (u' : pw_W), i + f = Ds.length → kI E p L u' → cx E u u' (k_F L) 0 → u'.2 = u.2 → pw_Wp E m_X13_asOf (e + 1) 5 [some (va_rf (some th)), some (.int (iI (n : Nat))), some (.int (iI x)), some (.int (iI (upto i (fun i s => if (!decide (dc_asOf (da_D Ds i) x = -1) && e0.2.2.2.2 i (dc_asOf (da_D Ds i) x).toNat) = true then s_or s (s_bit i) else s_or s 0) 0))), some (.int (iI (i : Nat))), none] [] u' (c_i K) := by
    intro f
    induction f with
    | zero =>
      intro i u' hi hI' c n'
      have : i = Ds.length := by omega
      subst this
      exact s_X13_asOf_5 _ _ _ _ _ (hQ.arch hI' (fun a hA => qa_many (by omega) hA (ifT (by rw [iI_len (by omega) (by omega)]; omega) ⟨_, rfl, H u' hI' c n'⟩)))
    | succ f ih =>
      intro i u' hi hI' c n'
      obtain ⟨D, hd1⟩ := dc_get (l := Ds) (i := i) (by omega)
      obtain ⟨g1, g2, g3, g4, g5, g6, g7⟩ := hQ.D.at hd1
      have nx := fun u' => ih (i + 1) u' (by omega)
      rw [upto_s, g3] at nx
      generalize upto i (fun i s => if (!decide (dc_asOf (da_D Ds i) x = -1) && e0.2.2.2.2 i (dc_asOf (da_D Ds i) x).toNat) = true then s_or s (s_bit i) else s_or s 0) 0 = y at nx ⊢
      have hr := dc_asOf_r D x
      refine s_X13_asOf_5 _ _ _ _ _ (hQ.arch hI' (fun a hA => qa_many (by omega) hA (ifF (by rw [iI_len (by omega) (by omega)]; omega) (hQ.arch hI' (fun a' hA' => qa_of (by omega) hA' hd1 (fun b hb => ?_))))))
      obtain ⟨us, hus⟩ := hb.obj
      refine ⟨b, us, rfl, hus, cd_asOf_ok (by omega) hb g4 hx ?_⟩
      have m1 : (iI (dc_asOf D x) = -1) = (dc_asOf D x = -1) := iI_eq (b := -1) (rI_small (by omega) (by omega)) (rI_small (by omega) (by omega))
      by_cases z : dc_asOf D x = -1
      · have nx := nx u' hI' c n'
        rw [if_neg (by rw [decide_eq_true z, Bool.not_true, Bool.false_and]; decide)] at nx
        refine ifT (by rw [m1]; exact z) ?_
        rw [iI_or1, iI_ad1]
        exact nx
      · have ea : iI (dc_asOf D x) = iI (((dc_asOf D x).toNat : Nat) : Int) := by rw [Int.toNat_of_nonneg (by omega)]
        refine ifF (by rw [m1]; exact z) ?_
        rw [ea]
        refine hQ.at (by omega) hI' hn ((hQ.hold hn) e u' i _ D _ (by omega) hI' hd1 (by omega) (fun u'' h1 h2 h3 => ?_))
        rw [kF_all] at h2
        have nx := nx u'' h1 ((c.tr h2).le (by omega)) (h3.trans n')
        rw [decide_eq_false z, Bool.not_false, Bool.true_and] at nx
        cases hb : e0.2.2.2.2 i (dc_asOf D x).toNat with
        | false =>
          rw [hb, if_neg (by decide)] at nx
          refine ifT (by decide) ?_
          rw [iI_or1, iI_ad1]
          exact nx
        | true =>
          rw [hb, if_pos rfl] at nx
          refine ifF (by decide) ?_
          rw [iI_orb, iI_ad1]
          exact nx
  exact key Ds.length 0 u (by omega) hI (cx.refl hI.1) rfl
def dk_sum (Ds : List dc) (φ : Nat → Nat → Bool) : Int := da_sum Ds (fun i v => if φ i v = true then 1 else 0)
theorem kQ.all {c e : Nat} {φ : Nat → Nat → Bool} {K : Int32 → pw_W → Prop} (hd : 5 ≤ e) (hQ : kQ E p th Ds t L) (hI : kI E p L u)
    (hF : ∀ (u' : pw_W) (i v : Nat) (D : dc) (Q : Int32 → pw_W → Prop), kI E p L u' → cx E u u' (k_F L) 0 → Ds[i]? = some D → v < D.1.length → (∀ u'', kI E p L u'' → cx E u' u'' (k_F L) 0 → u''.2 = u'.2 → Q (iI (if φ i v = true then 1 else 0)) u'') → f_F E u' (some c) ⟨"VersionSearch$Count", "of", "(II)I"⟩ (some .int) e [.int (iI (i : Nat)), .int (iI (v : Nat))] (c_i Q))
    {a : Nat} (hA : c_arch E p p a Ds t) (H : ∀ u', kI E p L u' → cx E u u' (k_F L) 0 → u'.2 = u.2 → K (iI (dk_sum Ds φ)) u') : f_V E u (some a) 4 m_X5_all (e + 1) [va_rf (some c)] (c_i K) := by
  refine qa_all (F := fun i v => if φ i v = true then 1 else 0) (I := fun _ u' => kI E p L u' ∧ cx E u u' (k_F L) 0 ∧ u'.2 = u.2) (t := t) hd hQ.D ⟨hI, cx.refl hI.1, rfl⟩ (fun k u' hu => hA.mono hu.1.2.1 hu.1.2.1) (fun k u' i v D Q hu hi hv hq => ?_) (fun u' hu => H u' hu.1 hu.2.1 hu.2.2)
  exact hF u' i v D Q hu.1 hu.2.1 hi hv (fun u'' h1 h2 h3 => hq u'' ⟨h1, (hu.2.1.tr h2).le (by omega), h3.trans hu.2.2⟩)
theorem kQ.A (hQ : kQ E p th Ds t L) : ∃ (a : Nat) (x : Value), c_arch E p p a Ds t ∧ p th = some (12, [va_rf (some a), x]) := by
  obtain ⟨a, al, b, mc, h1, h2, h3, h4, h5⟩ := hQ
  exact ⟨a, _, h1.2.1, h2⟩
theorem ck_many_ok {n : Nat} {e0 : kE} {K : Int32 → pw_W → Prop} (hd : 120 ≤ d) (hQ : kQ E p th Ds t L) (hI : kI E p L u) (hn : L[n]? = some e0) (H : ∀ u', kI E p L u' → cx E u u' (k_F L) 5 → K (iI (dk_sum Ds e0.2.2.2.2)) u') : pw_Cl E m_X13_many d [va_rf (some th), .int (iI (n : Nat))] u (c_i K) := by
  replace hd := pw_d1 hd; obtain ⟨e, rfl, hd⟩ := hd
  obtain ⟨a, x, hA, hx⟩ := hQ.A
  refine e_X13_many _ _ (s_X13_many_0 _ _ (hQ.at (by omega) hI hn ⟨th, _, _, rfl, hI.2.1 _ _ hx, rfl, by omega, ?_⟩))
  have c1 : cx E u (pw_new u (2015, [va_rf (some e0.1)]) 1) (k_F L) 5 := cx.new hI.1 _ 1
  have hI1 : kI E p L (pw_new u (2015, [va_rf (some e0.1)]) 1) := hI.cx (cx.new hI.1 (2015, [va_rf (some e0.1)]) 1) (F := c_no) (fun _ _ _ q => q) (fun _ _ q => q)
  have hc : (pw_new u (2015, [va_rf (some e0.1)]) 1).1 u.2.1 = some (2015, [va_rf (some e0.1)]) := pw_new_1 _ _ _
  replace hd := pw_d1 hd; obtain ⟨e, rfl, hd⟩ := hd
  replace hd := pw_d1 hd; obtain ⟨e, rfl, hd⟩ := hd
  replace hd := pw_d1 hd; obtain ⟨e, rfl, hd⟩ := hd
  refine hQ.all (φ := e0.2.2.2.2) (by omega) hI1 (fun u' i v D Q hI' c hi hv hq => ?_) hA (fun u' h1 h2 h3 => ⟨_, rfl, H u' h1 ((c1.tr h2).le (by omega))⟩)
  refine lm_F15 (c.keep hc (fun z => by have := hI.lt z; omega)) (e_X13_lambda_many_7 _ _ _ (s_X13_lambda_many_7_0 _ _ _ ((hQ.hold hn) _ u' i v D _ (by omega) hI' hi hv (fun u'' h1 h2 h3 => ?_))))
  rw [kF_all] at h2
  have := hq u'' h1 h2 h3
  cases hb : e0.2.2.2.2 i v with
  | false =>
    rw [hb] at this
    exact ifT (by decide) ⟨_, rfl, this⟩
  | true =>
    rw [hb] at this
    exact ifF (by decide) ⟨_, rfl, this⟩
def dk_imp (Ds : List dc) (φ ψ : Nat → Nat → Bool) : Bool := decide (dk_sum Ds (fun i v => φ i v && !ψ i v) = 0)
theorem ck_implies_ok {n m : Nat} {e0 e1 : kE} {K : Bool → pw_W → Prop} (hd : 130 ≤ d) (hQ : kQ E p th Ds t L) (hI : kI E p L u) (hn : L[n]? = some e0) (hm : L[m]? = some e1) (H : ∀ u', kI E p L u' → cx E u u' (k_F L) 16 → K (dk_imp Ds e0.2.2.2.2 e1.2.2.2.2) u') : pw_Cl E m_X13_implies d [va_rf (some th), .int (iI (n : Nat)), .int (iI (m : Nat))] u (c_z K) := by
  replace hd := pw_d1 hd; obtain ⟨e, rfl, hd⟩ := hd
  obtain ⟨a, x, hA, hx⟩ := hQ.A
  refine e_X13_implies _ _ _ (s_X13_implies_0 _ _ _ (hQ.at (by omega) hI hn (hQ.at (by omega) hI hm (ck_not_ok (by omega) hI.1 (fun u1 c1 n1 l1 => ck_both_ok (by omega) c1.ok (fun u2 c2 n2 l2 => ?_))))))
  have hI2 : kI E p L u2 := (hI.cx c1 (fun _ _ _ q => q) (fun _ _ q => q)).cx c2 (fun _ _ _ q => q) (fun _ _ q => q)
  obtain ⟨p', hs, hQ', hI2', hg⟩ := rs_grow hQ hI2
  have nF : ∀ q : Nat, u.2.1 ≤ q → ¬ k_F L q := fun q hq z => by have := hI.lt z; omega
  have hb0 : kH E p' L Ds L.length 104 u1.2.1 (fun i v => e0.2.2.2.2 i v && !e1.2.2.2.2 i v) := (((hQ'.hold hn).mono (Nat.le_refl _) (by omega)).both ((hQ'.hold hm).not (hg _ _ (c2.at l1) (nF _ (Nat.le_refl _)))) (hg _ _ l2 (nF _ (by omega)))).mono (Nat.le_refl _) (by omega)
  refine ⟨th, _, _, rfl, hI2.2.1 _ _ hx, rfl, by omega, ?_⟩
  have c3 : cx E u2 (pw_new u2 (2016, [va_rf (some u1.2.1)]) 1) c_no 5 := cx.new hI2.1 _ 1
  have hI3 : kI E p' L (pw_new u2 (2016, [va_rf (some u1.2.1)]) 1) := hI2'.cx c3 (fun _ _ _ q => q) (fun _ _ q => q)
  have hc : (pw_new u2 (2016, [va_rf (some u1.2.1)]) 1).1 u2.2.1 = some (2016, [va_rf (some u1.2.1)]) := pw_new_1 _ _ _
  replace hd := pw_d1 hd; obtain ⟨e, rfl, hd⟩ := hd
  replace hd := pw_d1 hd; obtain ⟨e, rfl, hd⟩ := hd
  replace hd := pw_d1 hd; obtain ⟨e, rfl, hd⟩ := hd
  refine hQ'.all (φ := fun i v => e0.2.2.2.2 i v && !e1.2.2.2.2 i v) (by omega) hI3 (fun u' i v D Q hI' c hi hv hq => ?_) (hA.mono hs hs) (fun u' h1 h2 h3 => ?_)
  · replace hq : ∀ u'', kI E p' L u'' → cx E u' u'' (k_F L) 0 → u''.2 = u'.2 → Q (iI (if (e0.2.2.2.2 i v && !e1.2.2.2.2 i v) = true then 1 else 0)) u'' := hq
    refine lm_F16 (c.keep hc (fun z => nF _ (by omega) z)) (e_X13_lambda_implies_8 _ _ _ (s_X13_lambda_implies_8_0 _ _ _ (hb0 _ u' i v D _ (by omega) hI' hi hv (fun u'' h1 h2 h3 => ?_))))
    rw [kF_all] at h2
    have := hq u'' h1 h2 h3
    show if bI (e0.2.2.2.2 i v && !e1.2.2.2.2 i v) = 0 then _ else _
    cases hb : (e0.2.2.2.2 i v && !e1.2.2.2.2 i v) with
    | false =>
      rw [hb] at this
      exact ifT (by decide) ⟨_, rfl, this⟩
    | true =>
      rw [hb] at this
      exact ifF (by decide) ⟨_, rfl, this⟩
  · have hh := H u' (h1.back hs) ((((c1.no.tr c2.no).tr c3.no).tr h2).le (by omega))
    unfold dk_imp at hh
    have hr : 0 ≤ dk_sum Ds (fun i v => e0.2.2.2.2 i v && !e1.2.2.2.2 i v) ∧ dk_sum Ds (fun i v => e0.2.2.2.2 i v && !e1.2.2.2.2 i v) ≤ 40 := dk_sum_r hQ.D (fun i v => e0.2.2.2.2 i v && !e1.2.2.2.2 i v)
    have m1 : (iI (dk_sum Ds (fun i v => e0.2.2.2.2 i v && !e1.2.2.2.2 i v)) = 0) = (dk_sum Ds (fun i v => e0.2.2.2.2 i v && !e1.2.2.2.2 i v) = 0) := iI_eq (b := 0) (rI_small (by omega) (by omega)) (rI_small (by omega) (by omega))
    by_cases z : dk_sum Ds (fun i v => e0.2.2.2.2 i v && !e1.2.2.2.2 i v) = 0
    · rw [decide_eq_true z] at hh
      exact ifT (by rw [m1]; exact z) ⟨true, rfl, hh⟩
    · rw [decide_eq_false z] at hh
      exact ifF (by rw [m1]; exact z) ⟨false, rfl, hh⟩
end
