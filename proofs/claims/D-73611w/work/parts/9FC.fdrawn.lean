set_option maxRecDepth 100000
/-! the component: drawn, answered as the twin does -/
section
variable {E : pw_E} {d : Nat} {w : pw_W} {z : pw_H} {f s ka : Nat} {x : sX} {V : sS} {A : Nat → Int}
theorem fx_drawn_ok {i sd n a q date : Int} {K : Int32 → pw_W → Prop} (hd : 200 ≤ d) (hw : wf E w) (h : s_fc E z w.1 f s ka x V) (hi : rI i) (hn : rI n) (ha : rI a) (hq : rI q) (hR : s_isA V i = true → s_rl A (s_A V i)) (h5 : s_isA V i = true → A 5 ≤ 279) (hdate : rI date) (H : (fun y => ∀ w', cx E w w' c_no 42700 → K (iI y) w') (if decide (0 ≤ n ∧ n ≤ 40) = true then (if s_isA V i = true then d_drawn A sd date n a q else -1) else -1)) : pw_Cl E m_X0_drawn d [va_rf (some f), .int (iI i), .int (iI sd), .int (iI n), .int (iI a), .int (iI q)] w (c_i K) := by
  replace hd := pw_d1 hd; obtain ⟨e, rfl, hd⟩ := hd
  have r0 : cx E w w c_no 42700 := cx.refl hw
  refine e_X0_drawn _ _ _ _ _ _ (s_X0_drawn_0 _ _ _ _ _ _ (q_isA (by omega) h hi ?_))
  cases c : s_isA V i with
  | false =>
    have e1 : (if decide (0 ≤ n ∧ n ≤ 40) = true then (if s_isA V i = true then d_drawn A sd date n a q else -1) else -1) = -1 := by rw [c]; split <;> rfl
    rw [e1] at H
    exact ifT (by rw [bI_0]) ⟨_, rfl, H w r0⟩
  | true =>
    rw [c, if_pos rfl] at H
    obtain ⟨g, hr, -⟩ := hR c
    obtain ⟨-, hA, hok, -, ht⟩ := h.A c
    obtain ⟨us, hus⟩ := hA.obj
    unfold d_drawn at H
    have hdoc : a_isDoc A a = decide (0 ≤ a ∧ a ≤ ((s_A V i).2.1.length : Int) - 1) := by unfold a_isDoc; rw [hr.A0.1]
    rw [hdoc] at H
    refine ifF (by rw [bI_0]; decide) (q_archiveOf (by omega) h c ⟨_, us, rfl, hus, ca_is_ok (by omega) hA (by have := hok.1; omega) ha ?_⟩)
    by_cases m : 0 ≤ a ∧ a ≤ ((s_A V i).2.1.length : Int) - 1
    · rw [decide_eq_true m] at H ⊢
      rw [if_pos (show true = true from rfl)] at H
      refine ifF (by decide) (c_isIn0_ok (b := 40) (by omega) hn (rI_small (by omega) (by omega)) ?_)
      by_cases mn : 0 ≤ n ∧ n ≤ 40
      · rw [decide_eq_true mn] at H ⊢
        rw [if_pos rfl] at H
        refine ifF (by decide) ?_
        have en : n = (n.toNat : Nat) := by omega
        rw [en]
        have hn40 : n.toNat ≤ 40 := by omega
        generalize n.toNat = nn at hn40 H ⊢
        clear en mn
        have h1l : 1 ≤ (s_A V i).2.1.length := by omega
        have hrun := fun k hk => hr.run (s := sd) (t := (s_A V i).2.2) (h5 c) h1l ht hdate k hk
        have k1 : cx E w (pw_new w (17, [va_rf none, .int 0]) 2) c_no 6 := cx.new hw _ 2
        have hh1 : s_fc E z (pw_new w (17, [va_rf none, .int 0]) 2).1 f s ka x V := h.mono k1.sub1
        have hdr : (pw_new w (17, [va_rf none, .int 0]) 2).1 w.2.1 = some (17, [va_rf none, .int 0]) := pw_new_1 _ _ _
        show f_V E (pw_new w (17, [va_rf none, .int 0]) 2) (some f) 0 m_X0_archiveOf _ _ _
        refine q_archiveOf (by omega) hh1 c (dr_init_ok (by omega) k1.ok (hA.mono k1.sub1 k1.sub1) hok h1l hdr hw.b hn40 (fun k hk => by
          obtain ⟨⟨g', r1⟩, -, -, r2, r3⟩ := hrun k (by omega)
          exact ⟨⟨_, g', r1⟩, r2, by omega⟩) (fun u a2 v2 cu hdru hA2 => ?_))
        obtain ⟨⟨g', r1⟩, r5, -, -, -⟩ := hrun nn hn40
        have cwu : cx E w u c_no 40006 := (cx.tn hw k1 cu (fun q hq => Or.inr (by have hq : q = w.2.1 := hq; omega))).le (by omega)
        have hlen := dd_run_len (s_A V i).2.1 sd (s_A V i).2.2 nn
        have hok2 := r1.da
        generalize (d_run A sd date nn).1 = A2 at H r1 r5
        generalize (dd_run (s_A V i).2.1 sd (s_A V i).2.2 nn).1 = Ds2 at hA2 r1 hlen hok2
        have ea : a = (a.toNat : Nat) := by omega
        rw [ea] at H ⊢
        have hj : a.toNat < Ds2.length := by omega
        generalize a.toNat = j at hj H ⊢
        have hD := r1.D0 hj
        obtain ⟨g1, g2, g3, g4, g5, g6, g7⟩ := hok2.at hD
        obtain ⟨x1, x2, x3, x4, x5, x6, x7, x8, x9⟩ := r1.dat hD
        have hlast := r1.last hD
        refine ⟨w.2.1, _, _, rfl, hdru, rfl, qa_of (by omega) hA2 hD (fun b hb => ?_)⟩
        generalize da_D Ds2 j = D at hD g3 g4 g5 g6 x5 x6 x7 x9 hlast hb
        obtain ⟨ud, hud⟩ := hb.obj
        obtain ⟨row, lr1, lr2, lr3⟩ := dc_lastR g4 g5
        unfold d_ans at H
        rw [hlast, r1.toksOf hD, x5] at H
        have szz : ∀ {K : Int32 → pw_W → Prop}, K (iI (dc_last D : Nat)) u → f_V E u (some b) 6 m_X7_size e [] (c_i K) := fun {K} hK => ⟨b, ud, rfl, hud, cd_size_ok (by omega) hb g4 lr1 (by rw [← lr3]; exact hK)⟩
        have eq := fun k (hk : rI k) => iI_eq (a := q) (b := k) hq hk
        have e0 := eq 0 (rI_small (by omega) (by omega)); have e1 := eq 1 (rI_small (by omega) (by omega)); have e2 := eq 2 (rI_small (by omega) (by omega))
        have fin := fun (u' : pw_W) (cu' : cx E u u' c_no 0) => H u' ((cwu.tr cu').le (by omega))
        have l20 : dc_last D ≤ 20 := by rw [lr3]; exact (r1.rw1 hD lr1).2.1
        by_cases z0 : q = 0
        · rw [if_pos (by omega), if_pos z0] at H
          refine ifT (by rw [show (0 : Int32) = iI 0 from rfl, e0]; exact z0) ⟨b, ud, rfl, hud, cd_many_ok (by omega) hb ⟨_, rfl, ?_⟩⟩
          rw [show (D.1.length : Int) - 1 + 1 = D.1.length by omega] at H
          exact H u (cwu.le (by omega))
        refine ifF (by rw [show (0 : Int32) = iI 0 from rfl, e0]; exact z0) ?_
        by_cases z1 : q = 1
        · rw [if_pos (by omega), if_neg z0, if_pos z1] at H
          exact ifT (by rw [show (1 : Int32) = iI 1 from rfl, e1]; exact z1) (szz ⟨_, rfl, H u (cwu.le (by omega))⟩)
        refine ifF (by rw [show (1 : Int32) = iI 1 from rfl, e1]; exact z1) ?_
        by_cases z2 : q = 2
        · rw [if_pos (by omega), if_neg z0, if_neg z1, if_pos z2] at H
          obtain ⟨lv, bv, cv, mv, lt, bt, ct, mt, ld, bd, cd, md, rs, ts, ds, h1', h2', h3', h4', h5', ⟨h7, h8⟩, -⟩ := id hb
          refine ifT (by rw [show (2 : Int32) = iI 2 from rfl, e2]; exact z2) ⟨b, _, _, rfl, h1', rfl, lt, _, rfl, h3'.1, cl_size_ok (by omega) h3' ⟨_, rfl, ?_⟩⟩
          rw [List.length_map, h7]
          exact H u (cwu.le (by omega))
        refine ifF (by rw [show (2 : Int32) = iI 2 from rfl, e2]; exact z2) (szz ?_)
        have ee : (9 : Int32) + iI (dc_last D : Nat) = iI (9 + (dc_last D : Nat)) := iI_add 9 _
        rw [ee]
        refine c_isIn_ok (a := 10) (by omega) hq (rI_small (by omega) (by omega)) (rI_small (by omega) (by omega)) ?_
        by_cases m2 : 10 ≤ q ∧ q ≤ 9 + (dc_last D : Nat)
        · rw [decide_eq_true m2]
          rw [if_neg (by omega), if_neg (by omega)] at H
          have eq9 : q - 10 = ((q - 10).toNat : Nat) := by omega
          have ew : iI q - 10 = iI ((q - 10).toNat : Nat) := by rw [← eq9]; exact iI_sub q 10
          rw [ew]
          rw [eq9] at H
          generalize (q - 10).toNat = p at eq9 H ⊢
          have em : iI (D.1.length : Nat) - 1 = iI ((D.1.length - 1 : Nat) : Int) := by
            rw [show ((D.1.length - 1 : Nat) : Int) = (D.1.length : Int) - 1 by omega]
            exact iI_sub _ 1
          rw [show (D.1.length : Int) - 1 = ((D.1.length - 1 : Nat) : Int) by omega, (r1.wordAt hD lr1 (by omega)).1] at H
          refine ifF (by decide) ⟨b, ud, rfl, hud, cd_many_ok (by omega) hb ?_⟩
          rw [em]
          exact dq_word (by omega) hb g4 lr1 (by omega) (fun t9 ht9 => cs_code_ok (by omega) cwu.ok ht9 ⟨_, rfl, H u (cwu.le (by omega))⟩)
        · rw [decide_eq_false m2]
          refine ifT (by decide) ⟨_, rfl, ?_⟩
          by_cases tt : q < 10
          · rw [if_pos tt, if_neg z0, if_neg z1, if_neg z2] at H
            exact H u (cwu.le (by omega))
          · rw [if_neg tt, if_pos (by omega)] at H
            exact H u (cwu.le (by omega))
      · rw [decide_eq_false mn] at H ⊢
        rw [if_neg (by decide)] at H
        exact ifT (by decide) ⟨_, rfl, H w r0⟩
    · rw [decide_eq_false m] at H ⊢
      have e1 : (if decide (0 ≤ n ∧ n ≤ 40) = true then (if false = true then d_ans (d_run A sd date n.toNat).1 a q else -1) else -1) = -1 := by split <;> rfl
      rw [e1] at H
      exact ifT (by decide) ⟨_, rfl, H w r0⟩
end
