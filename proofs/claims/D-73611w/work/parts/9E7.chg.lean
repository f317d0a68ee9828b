set_option maxRecDepth 100000
/-! the component: changes (a TreeSet of Integers), its nth -/
theorem dk_asOf_rI (Ds : List dc) (φ : Nat → Nat → Bool) (x : Int) : rI (dk_asOf Ds φ x) := by
  unfold dk_asOf
  generalize Ds.length = n
  cases n with
  | zero => exact rI_small (x := 0) (by omega) (by omega)
  | succ n =>
    rw [upto_s]
    split
    · exact rI_or _ _
    · exact rI_or _ _
theorem ch_l_e (f : Nat → Int) (n : Nat) : ch_l f 0 (n + 1) = ch_l f 0 n ++ (if ch_at f n = true then [n] else []) := by
  unfold ch_l
  have e : List.range' 0 (n + 1) = List.range' 0 n ++ [n] := by
    have := List.range'_append (s := 0) (m := n) (n := 1) (step := 1)
    rw [Nat.one_mul, Nat.zero_add] at this
    exact this.symm
  rw [e, List.filter_append]
  congr 1
  by_cases c : ch_at f n = true
  · rw [if_pos c, List.filter_cons, if_pos c]; rfl
  · rw [if_neg c, List.filter_cons, if_neg c]; rfl
section
variable {E : pw_E} {d : Nat} {p : pw_H} {L : List kE} {Ds : List dc} {u : pw_W} {th : Nat} {t : Int}
theorem ck_changes_ok {n : Nat} {e0 : kE} {K : Option Nat → pw_W → Prop} (hd : 130 ≤ d) (hQ : kQ E p th Ds t L) (hI : kI E p L u) (hn : L[n]? = some e0) (ht : 0 ≤ t ∧ t ≤ 100)
    (H : ∀ (u' : pw_W) (mc : Int32) (xs : List tE), kI E p L u' → cx E u u' (k_F L) 2000 → u'.1 u.2.1 = some (26, [va_rf (some (u.2.1 + 1))]) → c_tm E true u'.1 u'.1 (u.2.1 + 1) mc none xs → xs.map (fun e => e.2.2.1) = (ch_l (fun t => dk_asOf Ds e0.2.2.2.2 (t : Nat)) 0 t.toNat).map (fun n : Nat => (n : Int)) → (∀ q, t_F (u.2.1 + 1) xs q → u.2.1 ≤ q) → K (some u.2.1) u') : pw_Cl E m_X13_changes d [va_rf (some th), .int (iI (n : Nat))] u (c_r K) := by
  replace hd := pw_d1 hd; obtain ⟨e, rfl, hd⟩ := hd
  have hw := hI.1
  have hbb := hw.b
  have hl := hQ.D.1
  refine e_X13_changes _ _ (s_X13_changes_0 _ _ ?_)
  have c1 : cx E u (pw_new u (26, [va_rf none]) 1) c_no 5 := cx.new hw _ 1
  have a1 : (pw_new u (26, [va_rf none]) 1).1 u.2.1 = some (26, [va_rf none]) := pw_new_1 _ _ _
  have n1 : (pw_new u (26, [va_rf none]) 1).2.1 = u.2.1 + 1 := rfl
  show pw_Cl E m_J29_init e [va_rf (some u.2.1)] (pw_new u (26, [va_rf none]) 1) _
  generalize pw_new u (26, [va_rf none]) 1 = w1 at c1 a1 n1 ⊢
  obtain ⟨e1, rfl, hd1⟩ := pw_d1 (show 0 + 1 ≤ e by omega)
  refine e_J29_init _ (s_J29_init_0 _ ?_)
  have c2 : cx E w1 (pw_new w1 (22, [va_rf none, va_rf none, va_rf none, va_rf none, .int 0, .int 0, va_rf none, va_rf none, va_rf none]) 9) c_no 13 := cx.new c1.ok _ 9
  have a2 : (pw_new w1 (22, [va_rf none, va_rf none, va_rf none, va_rf none, .int 0, .int 0, va_rf none, va_rf none, va_rf none]) 9).1 (u.2.1 + 1) = some (22, [va_rf none, va_rf none, va_rf none, va_rf none, .int 0, .int 0, va_rf none, va_rf none, va_rf none]) := by rw [← n1]; exact pw_new_1 _ _ _
  have n2 : (pw_new w1 (22, [va_rf none, va_rf none, va_rf none, va_rf none, .int 0, .int 0, va_rf none, va_rf none, va_rf none]) 9).2.1 = u.2.1 + 2 := by show w1.2.1 + 1 = _; omega
  have b2 := c2.at a1
  show pw_Cl E m_J18_init e1 [va_rf (some w1.2.1)] (pw_new w1 (22, [va_rf none, va_rf none, va_rf none, va_rf none, .int 0, .int 0, va_rf none, va_rf none, va_rf none]) 9) _
  rw [n1]
  generalize pw_new w1 (22, [va_rf none, va_rf none, va_rf none, va_rf none, .int 0, .int 0, va_rf none, va_rf none, va_rf none]) 9 = w2 at c2 a2 n2 b2 ⊢
  refine tm_init_ok (τ := true) (by omega) c2.ok a2 (by omega) (fun w3 c3 n3 k3 => ?_)
  have b3 := c3.keep b2 (by omega)
  obtain ⟨e2, rfl, hd2⟩ := pw_d1 (show 0 + 1 ≤ e1 by omega)
  obtain ⟨e3, rfl, hd3⟩ := pw_d1 (show 0 + 1 ≤ e2 by omega)
  obtain ⟨e4, rfl, hd4⟩ := pw_d1 (show 0 + 1 ≤ e3 by omega)
  refine e_J29_init_2 _ _ (s_J29_init_2_0 _ _ ?_)
  have c4 : cx E w3 (pw_up w3 u.2.1 (26, [va_rf (some (u.2.1 + 1))])) (fun q => q = u.2.1) 0 := cx.up c3.ok _ b3 (by omega) rfl
  have c14 : cx E u (pw_up w3 u.2.1 (26, [va_rf (some (u.2.1 + 1))])) c_no 18 := (cx.tn hw (cx.tn hw (cx.tn hw c1 c2 (fun q f => f.elim)) c3 (fun q f => Or.inr (by have f : q = u.2.1 + 1 := f; omega))) c4 (fun q f => Or.inr (by have f : q = u.2.1 := f; omega))).le (by omega)
  have k4 : c_tm E true (pw_up w3 u.2.1 (26, [va_rf (some (u.2.1 + 1))])).1 (pw_up w3 u.2.1 (26, [va_rf (some (u.2.1 + 1))])).1 (u.2.1 + 1) 0 none [] := k3.keep c4 (by omega) (fun e he => by cases he) (fun a o ha hq => by
    have hq : a = u.2.1 := hq
    subst hq
    rw [b3] at ha
    cases ha
    decide)
  have a4 : (pw_up w3 u.2.1 (26, [va_rf (some (u.2.1 + 1))])).1 u.2.1 = some (26, [va_rf (some (u.2.1 + 1))]) := pw_up_1 _ _ _
  have n4 : (pw_up w3 u.2.1 (26, [va_rf (some (u.2.1 + 1))])).2.1 = u.2.1 + 2 := by show w3.2.1 = _; rw [n3]; exact n2
  refine e_J25_init _ (s_J25_init_0 _ ?_)
  obtain ⟨e5, rfl, hd5⟩ := pw_d1 (show 0 + 1 ≤ e4 by omega)
  refine e_J0_init _ (s_J0_init_0 _ ⟨rfl, ⟨rfl, ⟨u.2.1, _, rfl, b3, by omega, ⟨rfl, ⟨rfl, ?_⟩⟩⟩⟩⟩)
  show pw_Wp E m_X13_changes (e5 + 1 + 1 + 1 + 1 + 1 + 1) 13 [some (va_rf (some th)), some (.int (iI (n : Nat))), some (va_rf (some u.2.1)), some (.int 0), some (.int 0), none] [] (pw_up w3 u.2.1 (26, [va_rf (some (u.2.1 + 1))])) _
  generalize pw_up w3 u.2.1 (26, [va_rf (some (u.2.1 + 1))]) = w5 at c14 k4 a4 n4 ⊢
  clear c1 c2 c3 c4 a1 a2 b2 b3 k3 n1 n2 n3
  have nF : ∀ q : Nat, u.2.1 ≤ q → ¬ k_F L q := fun q hq z => by have := hI.lt z; omega
  have hI5 := hI.cx c14 (fun _ _ _ z => z) (fun _ _ z => z)
  have hkF : ∀ (v : pw_W), kI E p L v → ∀ (a : Nat) (o : pw_O), v.1 a = some o → k_F L a → o.1 ≠ 21 ∧ o.1 ≠ 28 ∧ o.1 ≠ 1001 := by
    intro v hv a o ha hq
    obtain ⟨y, hy, hq⟩ := hq
    obtain ⟨X, Y, x1, x2, x3⟩ := hv.2.2 y hy
    rcases hq with rfl | rfl
    · rw [x1] at ha; cases ha; exact ⟨(by decide : (1000 : Nat) ≠ 21), (by decide : (1000 : Nat) ≠ 28), (by decide : (1000 : Nat) ≠ 1001)⟩
    · rw [x2] at ha; cases ha; exact ⟨(by decide : (1000 : Nat) ≠ 21), (by decide : (1000 : Nat) ≠ 28), (by decide : (1000 : Nat) ≠ 1001)⟩
  generalize hf : (fun t : Nat => dk_asOf Ds e0.2.2.2.2 (t : Nat)) = F at H
  have hfr : ∀ k, rI (F k) := fun k => by rw [← hf]; exact dk_asOf_rI _ _ _
  have key : ∀ (f k : Nat) (v : pw_W) (mc : Int32) (xs : List tE), k + f = t.toNat → kI E p L v → cx E u v (k_F L) (18 + 15 * k) → v.1 u.2.1 = some (26, [va_rf (some (u.2.1 + 1))]) → c_tm E true v.1 v.1 (u.2.1 + 1) mc none xs → xs.map (fun e => e.2.2.1) = (ch_l F 0 k).map (fun n : Nat => (n : Int)) → (∀ q, t_F (u.2.1 + 1) xs q → u.2.1 + 1 ≤ q) → pw_Wp E m_X13_changes (e5 + 1 + 1 + 1 + 1 + 1 + 1) 13 [some (va_rf (some th)), some (.int (iI (n : Nat))), some (va_rf (some u.2.1)), some (.int (iI (if k = 0 then 0 else F (k - 1)))), some (.int (iI (k : Nat))), none] [] v (c_r K) := by
    intro f
    induction f with
    | zero =>
      intro k v mc xs hk hIv c hts htm hkeys hown
      refine s_X13_changes_13 _ _ _ _ _ (hQ.arch hIv (fun a hA => ?_))
      obtain ⟨ld, bd, cd, md, as, h1, -⟩ := hA
      refine ⟨a, _, _, rfl, h1, rfl, ifT ?_ ⟨_, rfl, H v mc xs hIv (c.le (by omega)) hts htm (by rw [hkeys, show k = t.toNat by omega]) (fun q hq => by have := hown q hq; omega)⟩⟩
      have : (iI t ≤ iI (k : Nat)) = (t ≤ (k : Nat)) := iI_le (rI_small (by omega) (by omega)) (rI_small (by omega) (by omega))
      rw [this]; omega
    | succ f ih =>
      intro k v mc xs hk hIv c hts htm hkeys hown
      refine s_X13_changes_13 _ _ _ _ _ (hQ.arch hIv (fun a hA => ?_))
      obtain ⟨ld, bd, cd, md, as, h1, -⟩ := hA
      obtain ⟨us, hus⟩ := hQ.ob hIv
      refine ⟨a, _, _, rfl, h1, rfl, ifF ?_ ⟨th, us, rfl, hus, ck_asOf_ok (by omega) hQ hIv hn (rI_small (by omega) (by omega)) (fun v1 hI1 cv1 nv1 => ?_)⟩⟩
      · have : (iI t ≤ iI (k : Nat)) = (t ≤ (k : Nat)) := iI_le (rI_small (by omega) (by omega)) (rI_small (by omega) (by omega))
        rw [this]; omega
      have eF : dk_asOf Ds e0.2.2.2.2 ((k : Nat) : Int) = F k := by rw [← hf]
      rw [eF]
      have hwas : rI (if k = 0 then 0 else F (k - 1)) := by
        split
        · exact rI_small (by omega) (by omega)
        · exact hfr _
      have ec : (iI (F k) = iI (if k = 0 then 0 else F (k - 1))) = (F k = if k = 0 then 0 else F (k - 1)) := iI_eq (hfr k) hwas
      have ek : iI (k : Nat) + 1 = iI ((k + 1 : Nat) : Int) := by rw [iI_a1]; rfl
      have nx := fun v' mc' xs' => ih (k + 1) v' mc' xs' (by omega)
      rw [if_neg (by omega), Nat.add_sub_cancel] at nx
      have cv : cx E u v1 (k_F L) (18 + 15 * k) := (c.tr cv1).le (by omega)
      have hts1 := cv1.keep hts (nF _ (Nat.le_refl _))
      have htm1 : c_tm E true v1.1 v1.1 (u.2.1 + 1) mc none xs := htm.keep cv1 (nF _ (by omega)) (fun y hy => nF _ (by have := hown y.1 (Or.inr ⟨y, hy, rfl⟩); omega)) (hkF v hIv)
      have hc9 : ch_at F k = !decide (F k = if k = 0 then 0 else F (k - 1)) := rfl
      by_cases z : F k = if k = 0 then 0 else F (k - 1)
      · refine ifT (by rw [ec]; exact z) ?_
        rw [ek]
        refine nx v1 mc xs hI1 (cv.le (by omega)) hts1 htm1 ?_ hown
        rw [ch_l_e, hc9, decide_eq_true z, if_neg (by decide), List.append_nil]
        exact hkeys
      · refine ifF (by rw [ec]; exact z) ?_
        refine ci_valueOf_ok (by omega) hI1.1 (by omega) (fun v2 bx cv2 hbx => ?_)
        have hI2 := hI1.cx cv2 (fun _ _ _ z => z) (fun _ _ z => z)
        have hts2 := cv2.at hts1
        have htm2 : c_tm E true v2.1 v2.1 (u.2.1 + 1) mc none xs := htm1.keep cv2 (fun z => z) (fun _ _ z => z) (fun _ _ _ z => z.elim)
        obtain ⟨-, ⟨-, -, -, -, -, ⟨px, hpx⟩, -⟩, -⟩ := hI2.1.S
        obtain ⟨us2, hus2⟩ := htm2.obj
        have hxl : xs.length ≤ k := by
          have := congrArg List.length hkeys
          rw [List.length_map, List.length_map] at this
          have h2 : (ch_l F 0 k).length ≤ (List.range' 0 k).length := List.length_filter_le _ _
          rw [List.length_range'] at h2
          omega
        have hlt : ∀ (i : Nat) (y : tE), xs[i]? = some y → y.2.2.1 < (k : Int) := by
          intro i y hy
          have hm : y.2.2.1 ∈ xs.map (fun e => e.2.2.1) := List.mem_map.mpr ⟨y, List.mem_of_getElem? hy, rfl⟩
          rw [hkeys] at hm
          obtain ⟨j, hj, ej⟩ := List.mem_map.mp hm
          have := (List.mem_filter.mp hj).1
          obtain ⟨i', hi', rfl⟩ := List.mem_range'.mp this
          omega
        refine ⟨u.2.1, _, rfl, hts2, e_J29_add _ _ (s_J29_add_0 _ _ ⟨u.2.1, _, _, rfl, hts2, rfl, some px, hpx, ⟨u.2.1 + 1, us2, rfl, hus2, tm_put_ok (by omega) hI2.1 htm2 (κ := (k : Int)) ⟨hbx, by omega, by omega⟩ (by omega) (fun i y w' hy hκ => ?_) (fun j w' hj hjs cw nw htm3 => ?_)⟩⟩)⟩
        · have := hlt i y hy
          omega
        · refine ifT rfl ⟨true, rfl, ?_⟩
          have ej : j = xs.length := by
            rcases Nat.lt_or_ge j xs.length with h9 | h9
            · obtain ⟨y, hy⟩ := dc_get (l := xs) (i := j) h9
              have := (hjs j y hy).2 (Nat.le_refl _)
              have := hlt j y hy
              omega
            · omega
          subst ej
          rw [List.take_length, List.drop_length] at htm3
          rw [ek]
          have hpF : ∀ (q : Nat) (o : pw_O), p q = some o → ¬ t_F (u.2.1 + 1) xs q := fun q o hq hF => by
            have := hown q hF
            have := hw.lt (hI.2.1 q o hq)
            omega
          refine nx w' _ _ (hI2.cx cw hpF (fun q hq hF => by have := hown q hF; exact nF q (by omega) hq)) ?_ (cw.keep hts2 (fun hF => by have := hown _ hF; omega)) htm3 ?_ ?_
          · exact (cx.tn hw (cv.tr cv2.no) cw (fun q hF => Or.inr (by have := hown _ hF; omega))).le (by omega)
          · rw [ch_l_e, hc9, decide_eq_false z, if_pos (by decide), List.map_append, List.map_append, hkeys]
            rfl
          · intro q hq
            rcases hq with rfl | ⟨y, hy, rfl⟩
            · exact Nat.le_refl _
            · rcases List.mem_append.mp hy with h9 | h9
              · exact hown _ (Or.inr ⟨y, h9, rfl⟩)
              · have h9 := List.mem_singleton.mp h9
                subst h9
                have := hI2.1.lt hts2
                show u.2.1 + 1 ≤ v2.2.1
                omega
  have := key t.toNat 0 w5 0 [] (by omega) hI5 (c14.no.le (by omega)) a4 k4 rfl (fun q hq => by
    rcases hq with rfl | ⟨y, hy, -⟩
    · omega
    · cases hy)
  exact this
end
