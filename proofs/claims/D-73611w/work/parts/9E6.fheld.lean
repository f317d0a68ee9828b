set_option maxRecDepth 100000
/-! the component: is it asked; the askings made; what they hold -/
section
variable {E : pw_E} {d : Nat} {w : pw_W} {z : pw_H} {f s ka : Nat} {x : sX} {V : sS} {A B : Nat → Int}
def s_isK (V : sS) (u k : Int) : Bool := decide (0 ≤ k ∧ k ≤ ((s_Q V u).2.length : Int) - 1)
def s_asked (V : sS) (i u k : Int) : Bool := s_isA V i && (s_isQ V u && s_isK V u k)
theorem q_isAsked {i u k : Int} {e : Nat} {K : Bool → pw_W → Prop} (hd : 7 ≤ e) (h : s_fc E z w.1 f s ka x V) (hi : rI i) (hu : rI u) (hk : rI k) (H : K (s_asked V i u k) w) : f_V E w (some f) 0 m_X0_isAsked e [.int (iI i), .int (iI u), .int (iI k)] (c_z K) := by
  replace hd := pw_d1 hd; obtain ⟨e, rfl, hd⟩ := hd
  refine ⟨f, _, rfl, h.1, e_X0_isAsked _ _ _ _ (s_X0_isAsked_0 _ _ _ _ (q_isA (by omega) h hi ?_))⟩
  unfold s_asked at H
  cases c : s_isA V i with
  | false =>
    rw [c] at H
    exact ifT (by rw [bI_0]) ⟨false, rfl, H⟩
  | true =>
    rw [c, Bool.true_and] at H
    refine ifF (by rw [bI_0]; decide) (q_isQ (by omega) h hu ?_)
    cases c2 : s_isQ V u with
    | false =>
      rw [c2] at H
      exact ifT (by rw [bI_0]) ⟨false, rfl, H⟩
    | true =>
      rw [c2, Bool.true_and] at H
      refine ifF (by rw [bI_0]; decide) (q_listQ (by omega) h c2 (fun hf => ?_))
      obtain ⟨⟨mc, b, cap, fas, f1, f2, f3⟩, h8, -⟩ := hf
      refine ⟨_, _, rfl, f1.1, cl_size_ok (by omega) f1 ?_⟩
      rw [List.length_map, f2]
      have es : iI ((s_Q V u).2.length : Nat) - 1 = iI (((s_Q V u).2.length : Nat) - 1) := iI_sub _ 1
      rw [es]
      refine c_isIn0_ok (by omega) hk (rI_small (by omega) (by omega)) ?_
      unfold s_isK at H
      by_cases m : 0 ≤ k ∧ k ≤ (((s_Q V u).2.length : Nat) : Int) - 1
      · rw [decide_eq_true m] at H ⊢
        exact ifF (by decide) ⟨true, rfl, H⟩
      · rw [decide_eq_false m] at H ⊢
        exact ifT (by decide) ⟨false, rfl, H⟩
/-- what the askings' makers ask for -/
def s_ask (E : pw_E) (w : pw_W) (V : sS) (i u : Int) (K : Option Nat → pw_W → Prop) : Prop := ∀ (w' : pw_W) (p : pw_H) (th : Nat) (L : List kE), cx E w w' c_no 480 → kQ E p th (s_A V i).2.1 (s_A V i).2.2 L → kI E p L w' → L.length = (s_Q V u).2.length → (∀ (n : Nat) (e0 : kE), L[n]? = some e0 → e0.2.2.2.2 = qph (s_A V i).2.1 (s_Q V u).2 n) → (∀ n, n < (s_Q V u).2.length → dk_phi L n = qph (s_A V i).2.1 (s_Q V u).2 n) → (∀ q, k_F L q → w.1 q = none) → K (some th) w'
theorem q_askings {i u : Int} {e : Nat} {K : Option Nat → pw_W → Prop} (hd : 80 ≤ e) (hw : wf E w) (h : s_fc E z w.1 f s ka x V) (hi : s_isA V i = true) (hu : s_isQ V u = true) (H : s_ask E w V i u K) : f_V E w (some f) 0 m_X0_askings e [.int (iI i), .int (iI u)] (c_r K) := by
  replace hd := pw_d1 hd; obtain ⟨e, rfl, hd⟩ := hd
  refine ⟨f, _, rfl, h.1, e_X0_askings _ _ _ (s_X0_askings_0 _ _ _ ?_)⟩
  have c1 : cx E w (pw_new w (12, [va_rf none, va_rf none]) 2) c_no 6 := cx.new hw _ 2
  have h1 : s_fc E z (pw_new w (12, [va_rf none, va_rf none]) 2).1 f s ka x V := h.mono c1.sub1
  have hth : (pw_new w (12, [va_rf none, va_rf none]) 2).1 w.2.1 = some (12, [va_rf none, va_rf none]) := pw_new_1 _ _ _
  show f_V E (pw_new w (12, [va_rf none, va_rf none]) 2) (some f) 0 m_X0_archiveOf _ _ _
  refine q_archiveOf (by omega) h1 hi (q_listQ (by omega) h1 hu (fun hf => ?_))
  obtain ⟨-, ha, hok, -, -⟩ := h.A hi
  obtain ⟨n, rfl, hn⟩ := s_isQ_at hu
  have hz := h.2.2.1
  have hf := h.2.2.2.1.2.1 _ (List.mem_of_getElem? hn)
  obtain ⟨⟨mc, b, cap, fas, f1, f2, f3⟩, h8, hqok⟩ := hf
  refine ck_init_ok (z := w.1) (by omega) c1.ok c1.sub1 (hw.2.1 _ (Nat.le_refl _)) hth hw.b ha hok (f1.mono hz) f2 h8 (fun i b q k1 k2 => (f3 i b q k1 k2).1.mono hz) hqok (fun w' p L al b9 mc9 c2 hzp hS hI hp hl hphi hlen _ => ⟨_, rfl, ?_⟩)
  have hph : ∀ (n' : Nat) (e0 : kE), L[n']? = some e0 → e0.2.2.2.2 = qph (s_A V i).2.1 (s_Q V (n : Int)).2 n' := by
    intro n' e0 he
    unfold qph
    rw [← hphi, kphi_at he]
  refine H w' p w.2.1 L ((cx.tn hw c1 c2 (fun q e => Or.inr (by have e : q = w.2.1 := e; omega))).le (by omega)) ⟨(s_A V i).1, al, b9, mc9, hS, hp, hl, hok, by omega⟩ hI hlen hph (fun n' hn' => ?_) (fun q hq => ?_)
  · unfold dk_phi qph
    rw [hphi]
  · obtain ⟨⟨hP, -⟩, -⟩ := hS
    obtain ⟨e0, he, hq⟩ := hq
    obtain ⟨-, -, p1, p2, -⟩ := hP e0 he
    cases hc : w.1 q with
    | none => rfl
    | some o =>
      have := hzp q o hc
      rcases hq with rfl | rfl
      · rw [p1] at this; cases this
      · rw [p2] at this; cases this
theorem cx.none {w w1 w2 : pw_W} {F G : Nat → Prop} {c c' : Nat} (h : cx E w w1 F c) (h' : cx E w1 w2 G c') (hG : ∀ q, G q → w.1 q = none) : cx E w w2 F (c + c') := h.trans h' (fun a o ha hg => by rw [hG a hg] at ha; cases ha)
theorem s_asked_at {i u k : Int} (h : s_asked V i u k = true) : s_isA V i = true ∧ s_isQ V u = true ∧ ∃ (n : Nat) (q : qQ), k = n ∧ (s_Q V u).2[n]? = some q ∧ n < (s_Q V u).2.length := by
  unfold s_asked at h
  rw [Bool.and_eq_true, Bool.and_eq_true] at h
  obtain ⟨h1, h2, h3⟩ := h
  have h3 := of_decide_eq_true h3
  obtain ⟨q, hq⟩ := dc_get (l := (s_Q V u).2) (i := k.toNat) (by omega)
  exact ⟨h1, h2, k.toNat, q, by omega, hq, by omega⟩
/-- of what is asked: what the twin asks first -/
theorem s_asked_if {i u k : Int} {X Y : Int} (hQ : s_isQ V u = true → qr B u (s_Q V u).2) : (if (s_isQ V u && s_isA V i) = true then (if decide (0 ≤ k ∧ k ≤ q_n B u - 1) = true then X else Y) else Y) = if s_asked V i u k = true then X else Y := by
  unfold s_asked s_isK
  cases c : s_isQ V u with
  | false => rw [Bool.false_and, Bool.false_and, Bool.and_false, if_neg (by decide), if_neg (by decide)]
  | true =>
    rw [Bool.true_and, Bool.true_and, (hQ c).1]
    cases c2 : s_isA V i with
    | false => rw [Bool.false_and, if_neg (by decide), if_neg (by decide)]
    | true => rw [Bool.true_and, if_pos rfl]
theorem fx_holds_ok {i u k a v : Int} {K : Int32 → pw_W → Prop} (hd : 200 ≤ d) (hw : wf E w) (h : s_fc E z w.1 f s ka x V) (hi : rI i) (hu : rI u) (hk : rI k) (ha : rI a) (hv : rI v) (hR : s_isA V i = true → s_rl A (s_A V i)) (hQ : s_isQ V u = true → qr B u (s_Q V u).2) (H : (fun y => ∀ w', cx E w w' c_no 28100 → K (iI y) w') (if (s_isQ V u && s_isA V i) = true then q_holdsP A B u k a v else -1)) : pw_Cl E m_X0_holds d [va_rf (some f), .int (iI i), .int (iI u), .int (iI k), .int (iI a), .int (iI v)] w (c_i K) := by
  replace hd := pw_d1 hd; obtain ⟨e, rfl, hd⟩ := hd
  have r0 : cx E w w c_no 28100 := cx.refl hw
  unfold q_holdsP at H
  rw [s_asked_if hQ] at H
  refine e_X0_holds _ _ _ _ _ _ (s_X0_holds_0 _ _ _ _ _ _ (q_isAsked (by omega) h hi hu hk ?_))
  cases c : s_asked V i u k with
  | false =>
    rw [if_neg (by rw [c]; decide)] at H
    exact ifT (by rw [bI_0]) ⟨_, rfl, H w r0⟩
  | true =>
    rw [if_pos c] at H
    obtain ⟨c1, c2, n, q, rfl, hq, hn⟩ := s_asked_at c
    obtain ⟨g, hr, -⟩ := hR c1
    rw [hr.isVer2] at H
    refine ifF (by rw [bI_0]; decide) (q_isVersion (by omega) h hi ha hv ?_)
    have e3 : s_isV V i a v = da_isVer (s_A V i).2.1 a v := by unfold s_isV; rw [c1, Bool.true_and]
    rw [e3]
    cases c3 : da_isVer (s_A V i).2.1 a v with
    | false =>
      rw [if_neg (by rw [c3]; decide)] at H
      exact ifT (by rw [bI_0]) ⟨_, rfl, H w r0⟩
    | true =>
      rw [if_pos c3] at H
      obtain ⟨j, m, D, row, rfl, rfl, hj, hm, hl⟩ := da_isVer.at c3
      have h10 := (hr.dat hj).2.2.2.2.2.2.1
      rw [hr.T (hQ c2) hn hj, dk_set_has (by omega) _ h10, decide_eq_true hl, Bool.true_and] at H
      refine ifF (by rw [bI_0]; decide) (q_askings (by omega) hw h c1 c2 (fun w' p th L c9 hkQ hkI hlen hphi _ hnone => ?_))
      obtain ⟨e0, he0⟩ := dc_get (l := L) (i := n) (by omega)
      refine hkQ.at (by omega) hkI he0 (hkQ.hold he0 e w' j m D _ (by omega) hkI hj hl (fun u' hI' cu _ => ?_))
      rw [hphi n e0 he0]
      rw [List.take_length] at cu
      have cc := (c9.none cu hnone).le (show 480 + 0 ≤ 28100 by omega)
      have fin := H u' cc
      cases b : qph (s_A V i).2.1 (s_Q V u).2 n j m with
      | true =>
        rw [b, if_pos rfl] at fin
        exact ifF (by decide) ⟨_, rfl, fin⟩
      | false =>
        rw [b, if_neg (by decide)] at fin
        exact ifT (by decide) ⟨_, rfl, fin⟩
theorem fx_implies_ok {i u k l : Int} {K : Int32 → pw_W → Prop} (hd : 200 ≤ d) (hw : wf E w) (h : s_fc E z w.1 f s ka x V) (hi : rI i) (hu : rI u) (hk : rI k) (hl : rI l) (hR : s_isA V i = true → s_rl A (s_A V i)) (hQ : s_isQ V u = true → qr B u (s_Q V u).2) (H : (fun y => ∀ w', cx E w w' c_no 28100 → K (iI y) w') (if (s_isQ V u && s_isA V i) = true then q_impP A B u k l else -1)) : pw_Cl E m_X0_implies d [va_rf (some f), .int (iI i), .int (iI u), .int (iI k), .int (iI l)] w (c_i K) := by
  replace hd := pw_d1 hd; obtain ⟨e, rfl, hd⟩ := hd
  have r0 : cx E w w c_no 28100 := cx.refl hw
  unfold q_impP at H
  rw [s_asked_if hQ] at H
  refine e_X0_implies _ _ _ _ _ (s_X0_implies_0 _ _ _ _ _ (q_isAsked (by omega) h hi hu hk ?_))
  cases c : s_asked V i u k with
  | false =>
    rw [if_neg (by rw [c]; decide)] at H
    exact ifT (by rw [bI_0]) ⟨_, rfl, H w r0⟩
  | true =>
    rw [if_pos c] at H
    obtain ⟨c1, c2, n, q, rfl, hq, hn⟩ := s_asked_at c
    have hl2 : decide (0 ≤ l ∧ l ≤ q_n B u - 1) = s_asked V i u l := by unfold s_asked s_isK; rw [c1, c2, Bool.true_and, Bool.true_and, (hQ c2).1]
    rw [hl2] at H
    refine ifF (by rw [bI_0]; decide) (q_isAsked (by omega) h hi hu hl ?_)
    cases c3 : s_asked V i u l with
    | false =>
      rw [if_neg (by rw [c3]; decide)] at H
      exact ifT (by rw [bI_0]) ⟨_, rfl, H w r0⟩
    | true =>
      rw [if_pos c3] at H
      obtain ⟨-, -, n', q', rfl, hq', hn'⟩ := s_asked_at c3
      obtain ⟨g, hr, -⟩ := hR c1
      rw [hr.within (hQ c2) hn hn'] at H
      refine ifF (by rw [bI_0]; decide) (q_askings (by omega) hw h c1 c2 (fun w' p th L c9 hkQ hkI hlen hphi _ hnone => ?_))
      obtain ⟨e0, he0⟩ := dc_get (l := L) (i := n) (by omega)
      obtain ⟨e1, he1⟩ := dc_get (l := L) (i := n') (by omega)
      obtain ⟨us, hus⟩ := hkQ.ob hkI
      refine ⟨th, us, rfl, hus, ck_implies_ok (by omega) hkQ hkI he0 he1 (fun u' hI' cu => ?_)⟩
      rw [hphi n e0 he0, hphi n' e1 he1]
      have cc := (c9.none cu hnone).le (show 480 + 16 ≤ 28100 by omega)
      have fin := H u' cc
      cases b : dk_imp (s_A V i).2.1 (qph (s_A V i).2.1 (s_Q V u).2 n) (qph (s_A V i).2.1 (s_Q V u).2 n') with
      | true =>
        rw [b, if_pos rfl] at fin
        exact ifF (by decide) ⟨_, rfl, fin⟩
      | false =>
        rw [b, if_neg (by decide)] at fin
        exact ifT (by decide) ⟨_, rfl, fin⟩
theorem fx_best_ok {i u q : Int} {K : Int32 → pw_W → Prop} (hd : 200 ≤ d) (hw : wf E w) (h : s_fc E z w.1 f s ka x V) (hi : rI i) (hu : rI u) (hq : rI q) (hR : s_isA V i = true → s_rl A (s_A V i)) (hQ : s_isQ V u = true → qr B u (s_Q V u).2) (H : (fun y => ∀ w', cx E w w' c_no 28100 → K (iI y) w') (if (s_isQ V u && s_isA V i) = true then (if q = 0 then q_best A (q_T A B u) (q_n B u) else if q = 1 then q_pairs A (q_T A B u) (q_n B u) else -2) else -2)) : pw_Cl E m_X0_best d [va_rf (some f), .int (iI i), .int (iI u), .int (iI q)] w (c_i K) := by
  replace hd := pw_d1 hd; obtain ⟨e, rfl, hd⟩ := hd
  have r0 : cx E w w c_no 28100 := cx.refl hw
  refine e_X0_best _ _ _ _ (s_X0_best_0 _ _ _ _ (q_isA (by omega) h hi ?_))
  cases c1 : s_isA V i with
  | false =>
    rw [if_neg (by rw [c1, Bool.and_false]; decide)] at H
    exact ifT (by rw [bI_0]) ⟨_, rfl, H w r0⟩
  | true =>
    refine ifF (by rw [bI_0]; decide) (q_isQ (by omega) h hu ?_)
    cases c2 : s_isQ V u with
    | false =>
      rw [if_neg (by rw [c2, Bool.false_and]; decide)] at H
      exact ifT (by rw [bI_0]) ⟨_, rfl, H w r0⟩
    | true =>
      rw [if_pos (by rw [c1, c2]; rfl)] at H
      refine ifF (by rw [bI_0]; decide) (c_isIn0_ok (b := 1) (by omega) hq (rI_small (by omega) (by omega)) ?_)
      obtain ⟨g, hr, -⟩ := hR c1
      have e0 : (iI q = 0) = (q = 0) := iI_eq (b := 0) hq (rI_small (by omega) (by omega))
      by_cases m : 0 ≤ q ∧ q ≤ 1
      · rw [decide_eq_true m]
        refine ifF (by decide) ?_
        by_cases q0 : q = 0
        · rw [if_pos q0] at H
          refine ifT (by rw [e0]; exact q0) (q_askings (by omega) hw h c1 c2 (fun w' p th L c9 hkQ hkI hlen hphi hdk hnone => ?_))
          rw [hr.qbest (hQ c2) hdk, ← hlen] at H
          obtain ⟨us, hus⟩ := hkQ.ob hkI
          exact ⟨th, us, rfl, hus, ck_best_ok (by omega) hkQ hkI (fun u' hI' cu => ⟨_, rfl, H u' ((c9.none cu hnone).le (show 480 + 80 ≤ 28100 by omega))⟩)⟩
        · rw [if_neg q0, if_pos (by omega)] at H
          refine ifF (by rw [e0]; exact q0) (q_askings (by omega) hw h c1 c2 (fun w' p th L c9 hkQ hkI hlen hphi hdk hnone => ?_))
          rw [hr.pairs (hQ c2) hdk, ← hlen] at H
          obtain ⟨us, hus⟩ := hkQ.ob hkI
          exact ⟨th, us, rfl, hus, ck_same_ok (by omega) hkQ hkI (fun u' hI' cu => ⟨_, rfl, H u' ((c9.none cu hnone).le (show 480 + 2048 ≤ 28100 by omega))⟩)⟩
      · rw [decide_eq_false m]
        rw [if_neg (by omega), if_neg (by omega)] at H
        exact ifT (by decide) ⟨_, rfl, H w r0⟩
theorem fx_times_ok {i u k a v : Int} {K : Int32 → pw_W → Prop} (hd : 200 ≤ d) (hw : wf E w) (h : s_fc E z w.1 f s ka x V) (hi : rI i) (hu : rI u) (hk : rI k) (ha : rI a) (hv : rI v) (hR : s_isA V i = true → s_rl A (s_A V i)) (hQ : s_isQ V u = true → qr B u (s_Q V u).2) (H : (fun y => ∀ w', cx E w w' c_no 28100 → K (iI y) w') (if s_isQ V u = true then (if s_isA V i = true then q_timesP A B u k a v else -1) else -1)) : pw_Cl E m_X0_times d [va_rf (some f), .int (iI i), .int (iI u), .int (iI k), .int (iI a), .int (iI v)] w (c_i K) := by
  replace hd := pw_d1 hd; obtain ⟨e, rfl, hd⟩ := hd
  have r0 : cx E w w c_no 28100 := cx.refl hw
  have ei : (if s_isQ V u = true then (if s_isA V i = true then q_timesP A B u k a v else -1) else -1) = (if (s_isQ V u && s_isA V i) = true then q_timesP A B u k a v else -1) := by
    cases s_isQ V u <;> cases s_isA V i <;> rfl
  rw [ei] at H
  unfold q_timesP at H
  rw [s_asked_if hQ] at H
  refine e_X0_times _ _ _ _ _ _ (s_X0_times_0 _ _ _ _ _ _ (q_isAsked (by omega) h hi hu hk ?_))
  cases c : s_asked V i u k with
  | false =>
    rw [if_neg (by rw [c]; decide)] at H
    exact ifT (by rw [bI_0]) ⟨_, rfl, H w r0⟩
  | true =>
    rw [if_pos c] at H
    obtain ⟨c1, c2, n, q, rfl, hq, hn⟩ := s_asked_at c
    obtain ⟨g, hr, -⟩ := hR c1
    obtain ⟨-, hA, hok, -, -⟩ := h.A c1
    rw [hr.isVer2] at H
    refine ifF (by rw [bI_0]; decide) (q_isVersion (by omega) h hi ha hv ?_)
    have e3 : s_isV V i a v = da_isVer (s_A V i).2.1 a v := by unfold s_isV; rw [c1, Bool.true_and]
    rw [e3]
    cases c3 : da_isVer (s_A V i).2.1 a v with
    | false =>
      rw [if_neg (by rw [c3]; decide)] at H
      exact ifT (by rw [bI_0]) ⟨_, rfl, H w r0⟩
    | true =>
      rw [if_pos c3] at H
      obtain ⟨j, m, D, row, rfl, rfl, hj, hm, hl⟩ := da_isVer.at c3
      obtain ⟨g1, g2, g3, g4, g5, g6, g7⟩ := hok.at hj
      refine ifF (by rw [bI_0]; decide) (q_listQ (by omega) h c2 (fun hf => ?_))
      obtain ⟨⟨mc, b, cap, fas, f1, f2, f3⟩, -, -⟩ := hf
      obtain ⟨qa, hqa⟩ := dc_get (l := fas) (i := n) (by omega)
      obtain ⟨⟨ko, wb, y1, y2, y3⟩, hqk⟩ := f3 n qa q hqa hq
      obtain ⟨a1, ⟨a2, a3, a4⟩, a5, a6⟩ := (hQ c2).2.2 n q hq
      refine ⟨_, _, rfl, f1.1, cl_get_ok (i := n) (x := some qa) (by omega) f1 (by rw [List.getElem?_map, hqa]; rfl) ⟨Or.inr ⟨qa, 10, _, rfl, y1, c_canQ⟩, qa, _, _, rfl, y1, rfl, ?_⟩⟩
      obtain ⟨-, -, -, ⟨b8, ks, s1, s2, s3, s4, s5⟩, -⟩ := hw.S
      have s50 := s5 0 (by omega)
      obtain ⟨k0, hk0⟩ := dc_get (l := ks) (i := 0) (by omega)
      rw [hk0] at s50
      have s40 := s4 0 k0 hk0
      refine ⟨some k0, s50, ?_⟩
      by_cases q0 : q.1 = 0
      · obtain ⟨ko', vs, t1, t2⟩ := hqk q0
        rw [y1] at t1
        cases t1
        have ek : ko = k0 := by
          have s50 : E.2.2.2.2 9 = va_rf (some k0) := s50
          rw [t2] at s50
          cases s50
          rfl
        subst ek
        rw [if_pos (by rw [a2, q0]; rfl), hr.qtimes hj hl (hQ c2) hq q0] at H
        refine ifT rfl (q_archiveOf (by omega) h c1 (qa_of (by omega) hA hj (fun b' hb' => ?_)))
        obtain ⟨ud, hud⟩ := hb'.obj
        exact ⟨qa, _, _, rfl, y1, rfl, b', ud, rfl, hud, cd_times_ok (by omega) hw hb' g4 hm y3 a1.2.1 ⟨_, rfl, H w r0⟩⟩
      · rw [if_neg (by rw [a2]; omega)] at H
        refine ifF (fun e9 => ?_) ⟨_, rfl, H w r0⟩
        cases e9
        rw [y2] at s40
        have e5 : iI ((q.1 : Nat) : Int) = iI ((0 : Nat) : Int) := by
          have := congrArg (fun o => match o with | some (_, [Value.int y]) => y | _ => 0) s40
          exact this
        rw [iI_eqn (by have := a1.1; omega) (by omega)] at e5
        exact q0 e5
end
