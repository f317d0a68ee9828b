set_option maxRecDepth 100000
/-! the component: the best of the questions; pairs that say the same -/
section
variable {E : pw_E} {d : Nat} {p : pw_H} {L : List kE} {Ds : List dc} {u : pw_W} {th : Nat} {t : Int}
theorem ck_isSame_ok {n m : Nat} {e0 e1 : kE} {K : Bool → pw_W → Prop} (hd : 131 ≤ d) (hQ : kQ E p th Ds t L) (hI : kI E p L u) (hn : L[n]? = some e0) (hm : L[m]? = some e1) (H : ∀ u', kI E p L u' → cx E u u' (k_F L) 32 → K (dk_imp Ds e0.2.2.2.2 e1.2.2.2.2 && dk_imp Ds e1.2.2.2.2 e0.2.2.2.2) u') : pw_Cl E m_X13_isSame d [va_rf (some th), .int (iI (n : Nat)), .int (iI (m : Nat))] u (c_z K) := by
  replace hd := pw_d1 hd; obtain ⟨e, rfl, hd⟩ := hd
  obtain ⟨us, hus⟩ := hQ.ob hI
  refine e_X13_isSame _ _ _ (s_X13_isSame_0 _ _ _ ⟨th, us, rfl, hus, ck_implies_ok (by omega) hQ hI hn hm (fun u1 h1 c1 => ?_)⟩)
  cases hb : dk_imp Ds e0.2.2.2.2 e1.2.2.2.2 with
  | false =>
    have := H u1 h1 (c1.le (by omega))
    rw [hb, Bool.false_and] at this
    exact ifT (by decide) ⟨false, rfl, this⟩
  | true =>
    obtain ⟨us', hus'⟩ := hQ.ob h1
    refine ifF (by decide) ⟨th, us', rfl, hus', ck_implies_ok (by omega) hQ h1 hm hn (fun u2 h2 c2 => ?_)⟩
    have := H u2 h2 ((c1.tr c2).le (by omega))
    rw [hb, Bool.true_and] at this
    cases hc : dk_imp Ds e1.2.2.2.2 e0.2.2.2.2 with
    | false =>
      rw [hc] at this
      exact ifT (by decide) ⟨false, rfl, this⟩
    | true =>
      rw [hc] at this
      exact ifF (by decide) ⟨true, rfl, this⟩
def dk_phi (L : List kE) (k : Nat) : Nat → Nat → Bool := (kphi L).getD k (fun _ _ => false)
def dk_best (Ds : List dc) (L : List kE) (n : Nat) : Int := upto n (fun k (b : Int) => if b = -1 then (k : Int) else if dk_sum Ds (dk_phi L k) ≤ dk_sum Ds (dk_phi L b.toNat) then b else (k : Int)) (-1)
theorem dk_best_r (Ds : List dc) (L : List kE) (n : Nat) : dk_best Ds L n = -1 ∨ (0 ≤ dk_best Ds L n ∧ dk_best Ds L n < n) := by
  induction n with
  | zero => exact Or.inl rfl
  | succ n ih =>
    unfold dk_best at ih ⊢
    rw [upto_s]
    split
    · exact Or.inr ⟨by omega, by omega⟩
    · rename_i z
      have ih := ih.resolve_left z
      split
      · exact Or.inr ⟨by omega, by omega⟩
      · exact Or.inr ⟨by omega, by omega⟩
theorem ck_best_ok {K : Int32 → pw_W → Prop} (hd : 131 ≤ d) (hQ : kQ E p th Ds t L) (hI : kI E p L u) (H : ∀ u', kI E p L u' → cx E u u' (k_F L) 80 → K (iI (dk_best Ds L L.length)) u') : pw_Cl E m_X13_best d [va_rf (some th)] u (c_i K) := by
  replace hd := pw_d1 hd; obtain ⟨e, rfl, hd⟩ := hd
  have hl := hQ.len
  refine e_X13_best _ (s_X13_best_0 _ ?_)
  have key : ∀ (f k : Nat) (u' : pw_W), k + f = L.length → kI E p L u' → cx E u u' (k_F L) (10 * k) → pw_Wp E m_X13_best (e + 1) 4 [some (va_rf (some th)), some (.int (iI (dk_best Ds L k))), some (.int (iI (k : Nat)))] [] u' (c_i K) := by
    intro f
    induction f with
    | zero =>
      intro k u' hk hI' c
      have : k = L.length := by omega
      subst this
      exact s_X13_best_4 _ _ _ (hQ.size (by omega) hI' (ifT (by rw [iI_len (by omega) (by omega)]; omega) ⟨_, rfl, H u' hI' (c.le (by omega))⟩))
    | succ f ih =>
      intro k u' hk hI' c
      have nx := fun u' => ih (k + 1) u' (by omega)
      have hr := dk_best_r Ds L k
      rw [show dk_best Ds L (k + 1) = if dk_best Ds L k = -1 then (k : Int) else if dk_sum Ds (dk_phi L k) ≤ dk_sum Ds (dk_phi L (dk_best Ds L k).toNat) then dk_best Ds L k else (k : Int) from rfl] at nx
      generalize dk_best Ds L k = b at nx hr ⊢
      obtain ⟨e0, he0⟩ := dc_get (l := L) (i := k) (by omega)
      have m1 : (iI b = -1) = (b = -1) := iI_eq (b := -1) (rI_small (by omega) (by omega)) (rI_small (by omega) (by omega))
      refine s_X13_best_4 _ _ _ (hQ.size (by omega) hI' (ifF (by rw [iI_len (by omega) (by omega)]; omega) ?_))
      by_cases z : b = -1
      · rw [if_pos z] at nx
        refine ifT (by rw [m1]; exact z) ?_
        rw [iI_ad1]
        exact nx u' hI' (c.le (by omega))
      · rw [if_neg z] at nx
        have hr := hr.resolve_left z
        obtain ⟨e1, he1⟩ := dc_get (l := L) (i := b.toNat) (by omega)
        have eb : iI b = iI ((b.toNat : Nat) : Int) := by rw [Int.toNat_of_nonneg hr.1]
        obtain ⟨us, hus⟩ := hQ.ob hI'
        rw [show dk_phi L k = e0.2.2.2.2 from kphi_at he0, show dk_phi L b.toNat = e1.2.2.2.2 from kphi_at he1] at nx
        refine ifF (by rw [m1]; exact z) ⟨th, us, rfl, hus, ck_many_ok (by omega) hQ hI' he0 (fun u1 h1 c1 => ?_)⟩
        obtain ⟨us', hus'⟩ := hQ.ob h1
        refine ⟨th, us', rfl, hus', ?_⟩
        rw [eb]
        refine ck_many_ok (by omega) hQ h1 he1 (fun u2 h2 c2 => ?_)
        have nx := nx u2 h2 (((c.tr c1).tr c2).le (by omega))
        have r1 : 0 ≤ dk_sum Ds e0.2.2.2.2 ∧ dk_sum Ds e0.2.2.2.2 ≤ 40 := dk_sum_r hQ.D _
        have r2 : 0 ≤ dk_sum Ds e1.2.2.2.2 ∧ dk_sum Ds e1.2.2.2.2 ≤ 40 := dk_sum_r hQ.D _
        have m2 : (iI (dk_sum Ds e0.2.2.2.2) ≤ iI (dk_sum Ds e1.2.2.2.2)) = (dk_sum Ds e0.2.2.2.2 ≤ dk_sum Ds e1.2.2.2.2) := iI_le (rI_small (by omega) (by omega)) (rI_small (by omega) (by omega))
        by_cases y : dk_sum Ds e0.2.2.2.2 ≤ dk_sum Ds e1.2.2.2.2
        · rw [if_pos y, eb] at nx
          refine ifT (by rw [m2]; exact y) ?_
          rw [iI_ad1]
          exact nx
        · rw [if_neg y] at nx
          refine ifF (by rw [m2]; exact y) ?_
          rw [iI_ad1]
          exact nx
  exact key L.length 0 u (by omega) hI (cx.refl hI.1)
def dk_eqv (Ds : List dc) (L : List kE) (b a : Nat) : Bool := dk_imp Ds (dk_phi L b) (dk_phi L a) && dk_imp Ds (dk_phi L a) (dk_phi L b)
def dk_same (Ds : List dc) (L : List kE) (n : Nat) : Int := upto n (fun a (c : Int) => upto a (fun b (c : Int) => c + (if dk_eqv Ds L b a = true then 1 else 0)) c) 0
theorem ck_same_ok {K : Int32 → pw_W → Prop} (hd : 140 ≤ d) (hQ : kQ E p th Ds t L) (hI : kI E p L u) (H : ∀ u', kI E p L u' → cx E u u' (k_F L) 2048 → K (iI (dk_same Ds L L.length)) u') : pw_Cl E m_X13_same d [va_rf (some th)] u (c_i K) := by
  replace hd := pw_d1 hd; obtain ⟨e, rfl, hd⟩ := hd
  have hl := hQ.len
  refine e_X13_same _ (s_X13_same_0 _ ?_)
  have key : ∀ (f a : Nat) (u' : pw_W), a + f = L.length → kI E p L u' → cx E u u' (k_F L) (256 * a) → pw_Wp E m_X13_same (e + 1) 4 [some (va_rf (some th)), some (.int (iI (dk_same Ds L a))), some (.int (iI (a : Nat))), none] [] u' (c_i K) := by
    intro f
    induction f with
    | zero =>
      intro a u' hk hI' c
      have : a = L.length := by omega
      subst this
      exact s_X13_same_4 _ _ _ (hQ.size (by omega) hI' (ifT (by rw [iI_len (by omega) (by omega)]; omega) ⟨_, rfl, H u' hI' (c.le (by omega))⟩))
    | succ f ih =>
      intro a u' hk hI' c
      have nx := fun u' => ih (a + 1) u' (by omega)
      rw [show dk_same Ds L (a + 1) = upto a (fun b (c : Int) => c + (if dk_eqv Ds L b a = true then 1 else 0)) (dk_same Ds L a) from rfl] at nx
      generalize dk_same Ds L a = y at nx ⊢
      obtain ⟨e0, he0⟩ := dc_get (l := L) (i := a) (by omega)
      refine s_X13_same_4 _ _ _ (hQ.size (by omega) hI' (ifF (by rw [iI_len (by omega) (by omega)]; omega) ?_))
      have inn : ∀ (g b : Nat) (v : pw_W), b + g = a → kI E p L v → cx E u v (k_F L) (256 * a + 32 * b) → pw_Wp E m_X13_same (e + 1) 17 [some (va_rf (some th)), some (.int (iI (upto b (fun b (c : Int) => c + (if dk_eqv Ds L b a = true then 1 else 0)) y))), some (.int (iI (a : Nat))), some (.int (iI (b : Nat)))] [] v (c_i K) := by
        intro g
        induction g with
        | zero =>
          intro b v hb hI2 c2
          have : b = a := by omega
          subst this
          refine s_X13_same_17 _ _ _ _ (ifT (by rw [iI_len (by omega) (by omega)]; omega) ?_)
          rw [iI_ad1]
          exact nx v hI2 (c2.le (by omega))
        | succ g ih2 =>
          intro b v hb hI2 c2
          obtain ⟨us, hus⟩ := hQ.ob hI2
          obtain ⟨e1, he1⟩ := dc_get (l := L) (i := b) (by omega)
          refine s_X13_same_17 _ _ _ _ (ifF (by rw [iI_len (by omega) (by omega)]; omega) ⟨th, us, rfl, hus, ck_isSame_ok (by omega) hQ hI2 he1 he0 (fun u3 h3 c3 => ?_)⟩)
          have nx2 := ih2 (b + 1) u3 (by omega) h3 ((c2.tr c3).le (by omega))
          rw [upto_s] at nx2
          rw [show dk_eqv Ds L b a = (dk_imp Ds e1.2.2.2.2 e0.2.2.2.2 && dk_imp Ds e0.2.2.2.2 e1.2.2.2.2) by unfold dk_eqv; rw [show dk_phi L b = e1.2.2.2.2 from kphi_at he1, show dk_phi L a = e0.2.2.2.2 from kphi_at he0]] at nx2
          cases hc : (dk_imp Ds e1.2.2.2.2 e0.2.2.2.2 && dk_imp Ds e0.2.2.2.2 e1.2.2.2.2) with
          | false =>
            rw [hc, if_neg (by decide)] at nx2
            refine ifT (by decide) ?_
            rw [iI_ad1, iI_a0]
            rw [Int.add_zero] at nx2
            exact nx2
          | true =>
            rw [hc, if_pos rfl] at nx2
            refine ifF (by decide) ?_
            rw [iI_ad1, iI_a1]
            exact nx2
      exact inn a 0 u' (by omega) hI' (c.le (by omega))
  exact key L.length 0 u (by omega) hI (cx.refl hI.1)
end
