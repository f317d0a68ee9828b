set_option maxRecDepth 100000
/-! the component: nth; found, answered as the twin does -/
def s_nth (l : List Int) (k : Int) : Int := match l[k.toNat]? with | some x => x | none => -1
theorem s_nth_ch (l : List Nat) {k : Int} (hk : 0 ≤ k) : s_nth (l.map (fun n : Nat => (n : Int))) k = ch_n l k := by
  unfold s_nth ch_n
  rw [if_neg (by omega), List.getElem?_map]
  cases l[k.toNat]? <;> rfl
section
variable {E : pw_E} {d : Nat} {u : pw_W} {m ts : Nat} {mc : Int32} {xs : List tE}
theorem cn_nth_ok {k : Int} {K : Int32 → pw_W → Prop} (hd : 20 ≤ d) (hw : wf E u) (htm : c_tm E true u.1 u.1 m mc none xs) (hts : u.1 ts = some (26, [va_rf (some m)])) (hk : 0 ≤ k ∧ k < 2147483648) (H : ∀ u', cx E u u' (fun q => q = m) 13 → K (iI (s_nth (xs.map (fun e => e.2.2.1)) k)) u') : pw_Cl E m_X0_nth d [va_rf (some ts), .int (iI k)] u (c_i K) := by
  replace hd := pw_d1 hd; obtain ⟨e, rfl, hd⟩ := hd
  obtain ⟨e1, rfl, hd1⟩ := pw_d1 (show 0 + 1 ≤ e by omega)
  obtain ⟨us, hus⟩ := htm.obj
  refine e_X0_nth _ _ (s_X0_nth_0 _ _ ⟨ts, _, rfl, hts, e_J29_iterator _ (s_J29_iterator_0 _ ⟨ts, _, _, rfl, hts, rfl, m, us, rfl, hus, tm_keySet_ok (by omega) hw htm (fun w2 c2 n2 htm2 hs2 => ?_)⟩)⟩)
  refine ⟨u.2.1, _, rfl, hs2, tm_iterator_ok (by omega) c2.ok htm2 hs2 (fun w3 c3 n3 hit3 => ⟨_, rfl, ?_⟩)⟩
  have htm3 := htm2.keep c3 (fun f => f) (fun _ _ f => f) (fun _ _ _ f => f.elim)
  have c03 : cx E u w3 (fun q => q = m) 13 := c2.tr c3.no
  have hmlt := hw.lt hus
  have hb := hw.b
  have key : ∀ (f p : Nat) (v : pw_W), p + f = xs.length → (p : Int) ≤ k → cx E w3 v (fun q => q = w2.2.1) 0 → c_kit v.1 w2.2.1 p mc m xs → pw_Wp E m_X0_nth (e1 + 1 + 1) 7 [none, none, some (.int (iI (k - (p : Nat)))), some (va_rf (some w2.2.1)), none] [] v (c_i K) := by
    have h25 : ∀ (q : Nat) (o : pw_O), w3.1 q = some o → q = w2.2.1 → o.1 = 25 := by
      rintro q o hq rfl
      obtain ⟨l, hl⟩ := hit3
      rw [hl] at hq; cases hq; rfl
    have tmv : ∀ v, cx E w3 v (fun q => q = w2.2.1) 0 → c_tm E true v.1 v.1 m mc (some u.2.1) xs := by
      intro v cv
      refine htm3.keep cv (fun hm => ?_) (fun y hy hq => ?_) (fun a o ha hq => ?_)
      · obtain ⟨us3, hus3⟩ := htm3.obj
        have k1 := h25 m _ hus3 hm
        have := htm3.kind m _ hus3 (Or.inl rfl)
        omega
      · obtain ⟨⟨y0, y1, y6, y8, S, ⟨q1, q2, q3⟩, q4⟩, -⟩ := htm3
        have : (23 : Nat) = 25 := h25 y.1 _ (q3 y hy).2 hq
        omega
      · have := h25 a o ha hq
        omega
    have cuv : ∀ v, cx E w3 v (fun q => q = w2.2.1) 0 → cx E u v (fun q => q = m) 13 := fun v cv => (cx.tn hw c03 cv (fun q f => Or.inr (by have f : q = w2.2.1 := f; have := c2.le1; omega))).le (by omega)
    intro f
    induction f with
    | zero =>
      intro p v hp hpk cv hit
      refine s_X0_nth_7 _ _ (tm_step (by omega) cv.ok hit (by have := c2.le1; omega) (tmv v cv) (fun _ => ⟨_, rfl, ?_⟩) (fun e w' he => by have := (List.getElem?_eq_some_iff.mp he).1; omega))
      have := H v (cuv v cv)
      unfold s_nth at this
      rw [List.getElem?_eq_none_iff.mpr (by rw [List.length_map]; omega)] at this
      exact this
    | succ f ih =>
      intro p v hp hpk cv hit
      refine s_X0_nth_7 _ _ (tm_step (by omega) cv.ok hit (by have := c2.le1; omega) (tmv v cv) (fun hx => ?_) (fun y v1 hy cv1 nv1 hit1 => ?_))
      · rw [List.getElem?_eq_none_iff] at hx
        omega
      have cv2 : cx E w3 v1 (fun q => q = w2.2.1) 0 := (cv.tr (cv1.mono (fun q _ _ e => e) (Nat.le_refl _))).le (by omega)
      obtain ⟨hbx, hr⟩ := (tmv v1 cv2).2.1 y (List.mem_of_getElem? hy)
      have ez : (iI (k - (p : Nat)) = 0) = (k - (p : Nat) = 0) := iI_eq (b := 0) (by have := hk.2; constructor <;> omega) (rI_small (by omega) (by omega))
      have e9 : iI (k - (p : Nat)) + (-1) = iI (k - ((p + 1 : Nat) : Int)) := by
        rw [show k - ((p + 1 : Nat) : Int) = (k - (p : Nat)) + (-1) by omega]
        rw [show (-1 : Int32) = iI (-1) by decide]
        exact iI_add _ (-1)
      refine ⟨Or.inr ⟨y.2.1, 28, _, rfl, hbx, c_canN⟩, y.2.1, _, rfl, hbx, e_J21_intValue _ (s_J21_intValue_0 _ ⟨y.2.1, _, _, rfl, hbx, rfl, _, rfl, ?_⟩)⟩
      by_cases kp : k - (p : Nat) = 0
      · refine ifT (by rw [ez]; exact kp) ⟨_, rfl, ?_⟩
        have := H v1 (cuv v1 cv2)
        unfold s_nth at this
        rw [show k.toNat = p by omega, List.getElem?_map, hy] at this
        exact this
      · refine ifF (by rw [ez]; exact kp) ?_
        rw [e9]
        exact ih (p + 1) v1 (by omega) (by omega) cv2 hit1
  have := key xs.length 0 w3 (by omega) (by omega) (cx.refl c03.ok) hit3
  rw [show k - ((0 : Nat) : Int) = k by omega] at this
  exact this
end
section
variable {E : pw_E} {d : Nat} {w : pw_W} {z : pw_H} {f s ka : Nat} {x : sX} {V : sS} {A B : Nat → Int}
theorem fx_found_ok {i u k q : Int} {K : Int32 → pw_W → Prop} (hd : 200 ≤ d) (hw : wf E w) (h : s_fc E z w.1 f s ka x V) (hi : rI i) (hu : rI u) (hk : rI k) (hq : rI q) (hR : s_isA V i = true → s_rl A (s_A V i)) (hQ : s_isQ V u = true → qr B u (s_Q V u).2) (H : (fun y => ∀ w', cx E w w' c_no 28100 → K (iI y) w') (if (s_isQ V u && s_isA V i) = true then q_foundP A B u k q else -1)) : pw_Cl E m_X0_found d [va_rf (some f), .int (iI i), .int (iI u), .int (iI k), .int (iI q)] w (c_i K) := by
  replace hd := pw_d1 hd; obtain ⟨e, rfl, hd⟩ := hd
  have r0 : cx E w w c_no 28100 := cx.refl hw
  unfold q_foundP at H
  rw [s_asked_if hQ] at H
  refine e_X0_found _ _ _ _ _ (s_X0_found_0 _ _ _ _ _ (q_isAsked (by omega) h hi hu hk ?_))
  cases c : s_asked V i u k with
  | false =>
    rw [if_neg (by rw [c]; decide)] at H
    exact ifT (by rw [bI_0]) ⟨_, rfl, H w r0⟩
  | true =>
    rw [if_pos c] at H
    refine ifF (by rw [bI_0]; decide) ?_
    have l0 : ((0 : Int32) ≤ iI q) = (0 ≤ q) := iI_le (a := 0) (rI_small (by omega) (by omega)) hq
    have eq := fun k (hk : rI k) => iI_eq (a := q) (b := k) hq hk
    have e0 := eq 0 (rI_small (by omega) (by omega)); have e1 := eq 1 (rI_small (by omega) (by omega)); have e2 := eq 2 (rI_small (by omega) (by omega)); have e3 := eq 3 (rI_small (by omega) (by omega))
    unfold q_found at H
    by_cases n0 : 0 ≤ q
    · rw [if_pos n0] at H
      obtain ⟨c1, c2, n, qq, rfl, hqq, hn⟩ := s_asked_at c
      obtain ⟨g, hr, hdt, hd9⟩ := hR c1
      have ht9 := h.A c1
      refine ifT (by rw [l0]; exact n0) (q_askings (by omega) hw h c1 c2 (fun w' p th L c9 hkQ hkI hlen hphi hdk hnone => ?_))
      obtain ⟨e9, he9⟩ := dc_get (l := L) (i := n) (by omega)
      have hph := hphi n e9 he9
      obtain ⟨us, hus⟩ := hkQ.ob hkI
      have fin := fun (u' : pw_W) (c' : Nat) (hc : 480 + c' ≤ 28100) (cu : cx E w' u' (k_F L) c') => H u' ((c9.none cu hnone).le hc)
      have hAB := hr.A0.2.2
      have docs := fun (al : Bool) => hr.docs (hQ c2) hn al
      by_cases q0 : q = 0
      · subst q0
        rw [if_pos (by omega), if_pos (by omega), if_pos rfl, if_neg (by omega), docs] at H fin
        refine ifT (by decide) (ifF (by decide) ⟨th, us, rfl, hus, ck_documents_ok (al := false) (by omega) hkQ hkI he9 (fun u' hI' cu _ => ⟨_, rfl, ?_⟩)⟩)
        rw [hph]
        exact fin u' 0 (by omega) cu
      refine ifF (by rw [show (0 : Int32) = iI 0 from rfl, e0]; exact q0) ?_
      by_cases q1 : q = 1
      · subst q1
        rw [if_pos (by omega), if_pos (by omega), if_neg (by omega), if_pos rfl, if_pos rfl, docs] at H fin
        refine ifT (by decide) (ifT (by decide) ⟨th, us, rfl, hus, ck_documents_ok (al := true) (by omega) hkQ hkI he9 (fun u' hI' cu _ => ⟨_, rfl, ?_⟩)⟩)
        rw [hph]
        exact fin u' 0 (by omega) cu
      refine ifF (by rw [show (1 : Int32) = iI 1 from rfl, e1]; exact q1) ?_
      have hck := fun (K : Option Nat → pw_W → Prop) (H9 : ∀ (u' : pw_W) (mc : Int32) (xs : List tE), kI E p L u' → cx E w' u' (k_F L) 2000 → u'.1 w'.2.1 = some (26, [va_rf (some (w'.2.1 + 1))]) → c_tm E true u'.1 u'.1 (w'.2.1 + 1) mc none xs → xs.map (fun e => e.2.2.1) = (ch_l (fun t => dk_asOf (s_A V i).2.1 (qph (s_A V i).2.1 (s_Q V u).2 n) (t : Nat)) 0 (s_A V i).2.2.toNat).map (fun n : Nat => (n : Int)) → K (some w'.2.1) u') => (⟨th, us, rfl, hus, ck_changes_ok (by omega) hkQ hkI he9 ht9.2.2.2.2 (fun u' mc xs k1 k2 k3 k4 k5 _ => H9 u' mc xs k1 k2 k3 k4 (by rw [← hph]; exact k5))⟩ : f_V E w' (some th) 12 m_X13_changes e [.int (iI (n : Nat))] (c_r K))
      by_cases q2 : q = 2
      · subst q2
        rw [if_pos (by omega), if_pos (by omega), if_neg (by omega), if_neg (by omega), if_pos rfl, hr.chg hdt (hQ c2) hn hd9 (by omega)] at H fin
        refine ifT (by decide) (hck _ (fun u' mc xs k1 k2 k3 k4 k5 => ?_))
        obtain ⟨us4, hus4⟩ := k4.obj
        obtain ⟨e', rfl, -⟩ := pw_d1 (show 0 + 1 ≤ e by omega)
        refine ⟨_, _, rfl, k3, e_J29_size _ (s_J29_size_0 _ ⟨_, _, _, rfl, k3, rfl, _, us4, rfl, hus4, tm_size_ok (by omega) k4 ⟨_, rfl, ?_⟩⟩)⟩
        have el : ((xs.length : Nat) : Int) = ch_n (ch_l (fun t => dk_asOf (s_A V i).2.1 (qph (s_A V i).2.1 (s_Q V u).2 n) (t : Nat)) 0 (s_A V i).2.2.toNat) (-1) := by
          have := congrArg List.length k5
          rw [List.length_map, List.length_map] at this
          unfold ch_n
          rw [if_pos rfl, this]
        rw [el]
        exact ⟨_, rfl, fin u' 2000 (by omega) k2⟩
      refine ifF (by rw [show (2 : Int32) = iI 2 from rfl, e2]; exact q2) ?_
      by_cases q3 : q = 3
      · subst q3
        rw [if_pos (by omega), if_pos (by omega), if_neg (by omega), if_neg (by omega), if_neg (by omega), if_pos rfl, hr.qsum (hQ c2) hn] at H fin
        refine ifT (by decide) ⟨th, us, rfl, hus, ck_many_ok (by omega) hkQ hkI he9 (fun u' hI' cu => ⟨_, rfl, ?_⟩)⟩
        rw [hph]
        exact fin u' 5 (by omega) cu
      refine ifF (by rw [show (3 : Int32) = iI 3 from rfl, e3]; exact q3) ?_
      refine c_isIn_ok (a := 10) (b := 13) (by omega) hq (rI_small (by omega) (by omega)) (rI_small (by omega) (by omega)) ?_
      by_cases m1 : 10 ≤ q ∧ q ≤ 13
      · rw [decide_eq_true m1]
        rw [if_pos (by omega), if_neg (by omega)] at fin
        have hB : ∀ i' : Nat, i' < (s_A V i).2.1.length → 0 ≤ dk_B (s_A V i).2.1 (qph (s_A V i).2.1 (s_Q V u).2 n) i' ∧ dk_B (s_A V i).2.1 (qph (s_A V i).2.1 (s_Q V u).2 n) i' ≤ 10 := fun i' _ => s_ones_r _
        have hrk := rkT_ok (Z := dk_Z (s_A V i).2.1 (qph (s_A V i).2.1 (s_Q V u).2 n)) hAB hB
        have hgd := rkT_good (B := dk_B (s_A V i).2.1 (qph (s_A V i).2.1 (s_Q V u).2 n)) (Z := dk_Z (s_A V i).2.1 (qph (s_A V i).2.1 (s_Q V u).2 n)) hAB
        refine ifF (by decide) ⟨th, us, rfl, hus, ck_ranked_ok (by omega) hkQ hkI he9 (by rw [hph]; exact hrk) hgd (fun u' mc k1 k2 k3 k4 k5 => ?_)⟩
        have eqn : iI q - 10 = iI ((q - 10).toNat : Nat) := by rw [show (((q - 10).toNat : Nat) : Int) = q - 10 by omega]; exact iI_sub q 10
        rw [eqn]
        rw [hph] at k5
        have hbw : pw_base E ≤ w'.2.1 := hkI.1.b
        refine rk_nth_ok (by omega) k1.1 k4 hbw (by omega) k5 hrk hgd (by omega) (fun u'' y c5 hy => ⟨_, rfl, ?_⟩)
        have ey : q_rankF A (q_T A B u) (n : Nat) (q - 10) (A 0).toNat 0 = y := by
          rcases hy with ⟨y1, y2⟩ | ⟨j, y1, y2, y3⟩
          · rw [y2]
            refine hr.rankNo (hQ c2) hn (fun j hj e => ?_)
            have := rkT_at (B := dk_B (s_A V i).2.1 (qph (s_A V i).2.1 (s_Q V u).2 n)) (Z := dk_Z (s_A V i).2.1 (qph (s_A V i).2.1 (s_Q V u).2 n)) hAB hj
            have := rkN_up (B := dk_B (s_A V i).2.1 (qph (s_A V i).2.1 (s_Q V u).2 n)) (Z := dk_Z (s_A V i).2.1 (qph (s_A V i).2.1 (s_Q V u).2 n)) hj
            omega
          · rw [y1]
            exact hr.rankAt (hQ c2) hn y2 (by rw [y3]; omega)
        rw [← ey]
        have cc : cx E w' u'' (k_F L) 60 := (cx.tn hkI.1 k2 c5 (fun a ha => Or.inr (by rcases ha with rfl | rfl <;> omega))).le (by omega)
        exact fin u'' 60 (by omega) cc
      rw [decide_eq_false m1]
      refine ifT (by decide) (c_isIn_ok (a := 100) (b := 199) (by omega) hq (rI_small (by omega) (by omega)) (rI_small (by omega) (by omega)) ?_)
      by_cases m2 : 100 ≤ q ∧ q ≤ 199
      · rw [decide_eq_true m2]
        rw [if_neg (by omega), if_neg (by omega), hr.asOf hdt (hQ c2) hn] at fin
        have eqn : iI q - 100 = iI (q - 100) := iI_sub q 100
        rw [eqn]
        refine ifF (by decide) ⟨th, us, rfl, hus, ck_asOf_ok (by omega) hkQ hkI he9 (rI_small (by omega) (by omega)) (fun u' hI' cu _ => ⟨_, rfl, ?_⟩)⟩
        rw [hph]
        exact fin u' 0 (by omega) cu
      rw [decide_eq_false m2]
      refine ifT (by decide) ?_
      have l2 : (iI q < 200) = (q < 200) := iI_lt (b := 200) hq (rI_small (by omega) (by omega))
      by_cases m3 : q < 200
      · refine ifT (by rw [l2]; exact m3) ⟨_, rfl, ?_⟩
        rw [if_pos (by omega)] at fin
        by_cases m4 : q < 10
        · rw [if_pos m4, if_neg q0, if_neg q1, if_neg q2, if_neg q3] at fin
          exact fin w' 0 (by omega) (cx.refl hkI.1)
        · rw [if_neg m4] at fin
          have e5 : q_rankF A (q_T A B u) (n : Nat) (q - 10) (A 0).toNat 0 = -1 := by
            refine hr.rankNo (hQ c2) hn (fun j hj e => ?_)
            have := rkT_at (B := dk_B (s_A V i).2.1 (qph (s_A V i).2.1 (s_Q V u).2 n)) (Z := dk_Z (s_A V i).2.1 (qph (s_A V i).2.1 (s_Q V u).2 n)) hAB hj
            have := rkN_up (B := dk_B (s_A V i).2.1 (qph (s_A V i).2.1 (s_Q V u).2 n)) (Z := dk_Z (s_A V i).2.1 (qph (s_A V i).2.1 (s_Q V u).2 n)) hj
            omega
          rw [e5] at fin
          exact fin w' 0 (by omega) (cx.refl hkI.1)
      · rw [if_neg (by omega), if_pos (by omega), hr.chg hdt (hQ c2) hn hd9 (by omega)] at fin
        refine ifF (by rw [l2]; exact m3) (hck _ (fun u' mc xs k1 k2 k3 k4 k5 => ?_))
        have eqn : iI q - 200 = iI (q - 200) := iI_sub q 200
        rw [eqn]
        refine cn_nth_ok (by omega) k1.1 k4 k3 (by have := hq.2; constructor <;> omega) (fun u'' c5 => ⟨_, rfl, ?_⟩)
        rw [k5, s_nth_ch _ (by omega)]
        have cc : cx E w' u'' (k_F L) 2013 := cx.tn hkI.1 k2 c5 (fun a ha => Or.inr (by have ha : a = w'.2.1 + 1 := ha; omega))
        exact fin u'' 2013 (by omega) cc
    · rw [if_neg n0] at H
      exact ifF (by rw [l0]; exact n0) ⟨_, rfl, H w r0⟩
end
