set_option maxRecDepth 100000
/-! the component: what the questions answer -/
def kQ (E : pw_E) (p : pw_H) (th : Nat) (Ds : List dc) (t : Int) (L : List kE) : Prop :=
  ∃ (a al b : Nat) (mc : Int32), kS E p th a Ds t L ∧ p th = some (12, [va_rf (some a), va_rf (some al)]) ∧ c_al E p al mc b 8 (L.map (fun e => some e.1)) ∧ da_ok Ds ∧ L.length ≤ 8
def dk_set (φ : Nat → Bool) (n : Nat) : Int := upto n (fun v s => if φ v = true then s_or s (s_bit v) else s_or s 0) 0
theorem iI_or1 (y : Int) : iI y ||| 0 = iI (s_or y 0) := by
  have : iI (s_or y 0) = iI y ||| iI 0 := iI_or y 0
  exact this.symm
theorem s_or_0r {y : Int} (hy : 0 ≤ y ∧ y < 1024) : s_or y 0 = y := by
  have h := iI_or1 y
  rw [iI_or0] at h
  have : s_or y 0 = Int32.toInt (iI y ||| 0) := by unfold s_or; rfl
  rw [this, iI_or0]
  exact Int32.toInt_ofInt_of_le (by omega) (by omega)
theorem dk_or {b : Bool} {y : Int} {v : Nat} (hy : 0 ≤ y ∧ y < 1024) (hv : v < 10) : 0 ≤ (if b = true then s_or y (s_bit v) else s_or y 0) ∧ (if b = true then s_or y (s_bit v) else s_or y 0) < 1024 := by
  cases b with
  | false => rw [if_neg (by decide), s_or_0r hy]; exact hy
  | true => rw [if_pos rfl]; exact s_or_r hy hv
theorem dk_set_r (φ : Nat → Bool) : ∀ n : Nat, n ≤ 10 → 0 ≤ dk_set φ n ∧ dk_set φ n < 1024 := by
  intro n
  induction n with
  | zero => intro _; exact ⟨Int.le_refl 0, (by decide : (0 : Int) < 1024)⟩
  | succ n ih => intro hn; exact dk_or (ih (by omega)) (by omega)
section
variable {E : pw_E} {d : Nat} {p : pw_H} {L : List kE} {Ds : List dc} {u : pw_W} {th : Nat} {t : Int}
theorem kQ.arch {K : Option Nat → Prop} (hQ : kQ E p th Ds t L) (hI : kI E p L u) (H : ∀ a : Nat, c_arch E u.1 u.1 a Ds t → K (some a)) : f_getr u (some th) 12 0 K := by
  obtain ⟨a, al, b, mc, h1, h2, h3, h4, h5⟩ := hQ
  exact ⟨th, _, _, rfl, hI.2.1 _ _ h2, rfl, H a (h1.2.1.mono hI.2.1 hI.2.1)⟩
theorem kQ.D (hQ : kQ E p th Ds t L) : da_ok Ds := by
  obtain ⟨a, al, b, mc, h1, h2, h3, h4, h5⟩ := hQ
  exact h4
theorem kQ.len (hQ : kQ E p th Ds t L) : L.length ≤ 8 := by
  obtain ⟨a, al, b, mc, h1, h2, h3, h4, h5⟩ := hQ
  exact h5
theorem kQ.ob (hQ : kQ E p th Ds t L) (hI : kI E p L u) : ∃ us, u.1 th = some (12, us) := by
  obtain ⟨a, al, b, mc, h1, h2, h3, h4, h5⟩ := hQ
  exact ⟨_, hI.2.1 _ _ h2⟩
theorem kQ.at {n : Nat} {e0 : kE} {K : Option Nat → pw_W → Prop} (hd : 4 ≤ d) (hQ : kQ E p th Ds t L) (hI : kI E p L u) (hn : L[n]? = some e0) (H : K (some e0.1) u) : f_V E u (some th) 12 m_X13_at d [.int (iI (n : Nat))] (c_r K) := by
  obtain ⟨a, al, b, mc, h1, h2, h3, h4, h5⟩ := hQ
  exact ⟨th, _, rfl, hI.2.1 _ _ h2, ck_at_ok hd (hI.2.1 _ _ h2) (h3.mono hI.2.1) hn ⟨_, hI.2.1 _ _ (h1.1.1 e0 (List.mem_of_getElem? hn)).2.2.2.2⟩ H⟩
theorem kQ.hold {n : Nat} {e0 : kE} (hQ : kQ E p th Ds t L) (hn : L[n]? = some e0) : kH E p L Ds L.length 100 e0.1 e0.2.2.2.2 := by
  obtain ⟨a, al, b, mc, h1, h2, h3, h4, h5⟩ := hQ
  have := (List.getElem?_eq_some_iff.mp hn).1
  exact (h1.2.2.2 n e0 hn).mono (by omega) (by unfold kdep; omega)
theorem kQ.size {K : Int32 → pw_W → Prop} (hd : 1 ≤ d) (hQ : kQ E p th Ds t L) (hI : kI E p L u) (H : K (iI L.length) u) : f_getr u (some th) 12 1 (fun x => f_V E u x 18 m_J2_size d [] (c_i K)) := by
  obtain ⟨a, al, b, mc, h1, h2, h3, h4, h5⟩ := hQ
  refine ⟨th, _, _, rfl, hI.2.1 _ _ h2, rfl, al, _, rfl, hI.2.1 _ _ h3.1, cl_size_ok hd (h3.mono hI.2.1) ?_⟩
  rw [List.length_map]
  exact H
theorem kF_all (L : List kE) : L.take L.length = L := List.take_length
theorem ck_set_ok {n i : Nat} {e0 : kE} {D : dc} {K : Int32 → pw_W → Prop} (hd : 101 ≤ d) (hQ : kQ E p th Ds t L) (hI : kI E p L u) (hn : L[n]? = some e0) (hi : Ds[i]? = some D) (H : ∀ u', kI E p L u' → cx E u u' (k_F L) 0 → u'.2 = u.2 → K (iI (dk_set (e0.2.2.2.2 i) D.1.length)) u') : pw_Cl E m_X13_set d [va_rf (some th), .int (iI (n : Nat)), .int (iI (i : Nat))] u (c_i K) := by
  replace hd := pw_d1 hd; obtain ⟨e, rfl, hd⟩ := hd
  obtain ⟨g1, g2, g3, g4, g5, g6, g7⟩ := hQ.D.at hi
  refine e_X13_set _ _ _ (s_X13_set_0 _ _ _ ?_)
  have key : ∀ (f v : Nat) (u' : pw_W), v + f = D.1.length → kI E p L u' → cx E u u' (k_F L) 0 → u'.2 = u.2 → pw_Wp E m_X13_set (e + 1) 5 [some (va_rf (some th)), some (.int (iI (n : Nat))), some (.int (iI (i : Nat))), some (.int (iI (dk_set (e0.2.2.2.2 i) v))), some (.int (iI (v : Nat)))] [] u' (c_i K) := by
    intro f
    induction f with
    | zero =>
      intro v u' hv hI' c n'
      have : v = D.1.length := by omega
      subst this
      exact s_X13_set_5 _ _ _ _ _ (hQ.arch hI' (fun a hA => qa_of (by omega) hA hi (fun b hb => dq_many (by omega) hb (ifT (by rw [iI_len (by omega) (by omega)]; omega) ⟨_, rfl, H u' hI' c n'⟩))))
    | succ f ih =>
      intro v u' hv hI' c n'
      refine s_X13_set_5 _ _ _ _ _ (hQ.arch hI' (fun a hA => qa_of (by omega) hA hi (fun b hb => dq_many (by omega) hb (ifF (by rw [iI_len (by omega) (by omega)]; omega) (hQ.at (by omega) hI' hn ((hQ.hold hn) e u' i v D _ (by omega) hI' hi (by omega) (fun u'' h1 h2 h3 => ?_)))))))
      rw [kF_all] at h2
      have nx := ih (v + 1) u'' (by omega) h1 ((c.tr h2).le (by omega)) (h3.trans n')
      rw [show dk_set (e0.2.2.2.2 i) (v + 1) = if e0.2.2.2.2 i v = true then s_or (dk_set (e0.2.2.2.2 i) v) (s_bit v) else s_or (dk_set (e0.2.2.2.2 i) v) 0 from rfl] at nx
      cases hb : e0.2.2.2.2 i v with
      | false =>
        rw [hb, if_neg (by decide)] at nx
        refine ifT (by decide) ?_
        rw [iI_or1, iI_ad1]
        exact nx
      | true =>
        rw [hb, if_pos rfl] at nx
        refine ifF (by decide) ?_
        rw [iI_orb, iI_ad1]
        exact nx
  exact key D.1.length 0 u (by omega) hI (cx.refl hI.1) rfl
def dk_docs (Ds : List dc) (φ : Nat → Nat → Bool) (al : Bool) : Int := upto Ds.length (fun i s => if (if al = true then decide (s_ones (dk_set (φ i) (da_D Ds i).1.length) = ((da_D Ds i).1.length : Int)) else !decide (dk_set (φ i) (da_D Ds i).1.length = 0)) = true then s_or s (s_bit i) else s_or s 0) 0
theorem ck_documents_ok {n : Nat} {al : Bool} {e0 : kE} {K : Int32 → pw_W → Prop} (hd : 110 ≤ d) (hQ : kQ E p th Ds t L) (hI : kI E p L u) (hn : L[n]? = some e0) (H : ∀ u', kI E p L u' → cx E u u' (k_F L) 0 → u'.2 = u.2 → K (iI (dk_docs Ds e0.2.2.2.2 al)) u') : pw_Cl E m_X13_documents d [va_rf (some th), .int (iI (n : Nat)), .int (bI al)] u (c_i K) := by
  replace hd := pw_d1 hd; obtain ⟨e, rfl, hd⟩ := hd
  have hl := hQ.D.1
  refine e_X13_documents _ _ _ (s_X13_documents_0 _ _ _ ?_)
  have key : ∀ (f i : Nat) (u' : pw_W), i + f = Ds.length → kI E p L u' → cx E u u' (k_F L) 0 → u'.2 = u.2 → pw_Wp E m_X13_documents (e + 1) 5 [some (va_rf (some th)), some (.int (iI (n : Nat))), some (.int (bI al)), some (.int (iI (upto i (fun i s => if (if al = true then decide (s_ones (dk_set (e0.2.2.2.2 i) (da_D Ds i).1.length) = ((da_D Ds i).1.length : Int)) else !decide (dk_set (e0.2.2.2.2 i) (da_D Ds i).1.length = 0)) = true then s_or s (s_bit i) else s_or s 0) 0))), some (.int (iI (i : Nat)))] [] u' (c_i K) := by
    intro f
    induction f with
    | zero =>
      intro i u' hi hI' c n'
      have : i = Ds.length := by omega
      subst this
      exact s_X13_documents_5 _ _ _ _ _ (hQ.arch hI' (fun a hA => qa_many (by omega) hA (ifT (by rw [iI_len (by omega) (by omega)]; omega) ⟨_, rfl, H u' hI' c n'⟩)))
    | succ f ih =>
      intro i u' hi hI' c n'
      obtain ⟨D, hd1⟩ := dc_get (l := Ds) (i := i) (by omega)
      obtain ⟨g1, g2, g3, g4, g5, g6, g7⟩ := hQ.D.at hd1
      have nx := fun u' => ih (i + 1) u' (by omega)
      rw [upto_s, g3] at nx
      generalize upto i (fun i s => if (if al = true then decide (s_ones (dk_set (e0.2.2.2.2 i) (da_D Ds i).1.length) = ((da_D Ds i).1.length : Int)) else !decide (dk_set (e0.2.2.2.2 i) (da_D Ds i).1.length = 0)) = true then s_or s (s_bit i) else s_or s 0) 0 = y at nx ⊢
      have hr := dk_set_r (e0.2.2.2.2 i) D.1.length g6
      obtain ⟨us, hus⟩ := hQ.ob hI'
      refine s_X13_documents_5 _ _ _ _ _ (hQ.arch hI' (fun a hA => qa_many (by omega) hA (ifF (by rw [iI_len (by omega) (by omega)]; omega) ?_)))
      cases al with
      | false =>
        refine ifT (by decide) ⟨th, us, rfl, hus, ck_set_ok (by omega) hQ hI' hn hd1 (fun u'' h1 h2 h3 => ?_)⟩
        have nx := nx u'' h1 ((c.tr h2).le (by omega)) (h3.trans n')
        have m1 : (iI (dk_set (e0.2.2.2.2 i) D.1.length) = 0) = (dk_set (e0.2.2.2.2 i) D.1.length = 0) := iI_eq (b := 0) (rI_small (by omega) (by omega)) (rI_small (by omega) (by omega))
        by_cases z : dk_set (e0.2.2.2.2 i) D.1.length = 0
        · rw [if_neg (by rw [if_neg (by decide), z]; decide)] at nx
          refine ifT (by rw [m1]; exact z) ?_
          rw [iI_or1, iI_ad1]
          exact nx
        · rw [if_pos (by rw [if_neg (by decide), decide_eq_false z]; rfl)] at nx
          refine ifF (by rw [m1]; exact z) ?_
          rw [iI_orb, iI_ad1]
          exact nx
      | true =>
        refine ifF (by decide) ⟨th, us, rfl, hus, ck_set_ok (by omega) hQ hI' hn hd1 (fun u'' h1 h2 h3 => ?_)⟩
        have nx := nx u'' h1 ((c.tr h2).le (by omega)) (h3.trans n')
        have hs := s_ones_r (dk_set (e0.2.2.2.2 i) D.1.length)
        refine c_bits_ok (by omega) hr (hQ.arch h1 (fun a' hA' => qa_of (by omega) hA' hd1 (fun b hb => dq_many (by omega) hb ?_)))
        have m1 : (iI (s_ones (dk_set (e0.2.2.2.2 i) D.1.length)) = iI ((D.1.length : Nat) : Int)) = (s_ones (dk_set (e0.2.2.2.2 i) D.1.length) = ((D.1.length : Nat) : Int)) := iI_eq (rI_small (by omega) (by omega)) (rI_small (by omega) (by omega))
        by_cases z : s_ones (dk_set (e0.2.2.2.2 i) D.1.length) = ((D.1.length : Nat) : Int)
        · rw [if_pos (by rw [if_pos rfl, decide_eq_true z])] at nx
          refine ifT (by rw [m1]; exact z) ?_
          rw [iI_orb, iI_ad1]
          exact nx
        · rw [if_neg (by rw [if_pos rfl, decide_eq_false z]; decide)] at nx
          refine ifF (by rw [m1]; exact z) ?_
          rw [iI_or1, iI_ad1]
          exact nx
  exact key Ds.length 0 u (by omega) hI (cx.refl hI.1) rfl
end
