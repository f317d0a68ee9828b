set_option maxRecDepth 100000
/-! the component: what a hunt answers -/
def hu_c (s : List Int) : Int := s.getD 0 0 - 97 + 1
def hu_sure : Int → List (List Int) → Int
  | f, [] => f
  | f, s :: l => if f = -1 then hu_sure (hu_c s) l else if f = hu_c s then hu_sure (hu_c s) l else -1
def hu_cnt (Ds : List dc) (SS : List (List Int)) (i v : Int) (k : Nat) : Int := upto k (fun j (n : Int) => n + (if da_has Ds (SS.getD j []) i v = true then 1 else 0)) 0
def hu_most (Ds : List dc) (SS : List (List Int)) (i v : Int) : Int := max (hu_cnt Ds SS i v SS.length) (SS.length - hu_cnt Ds SS i v SS.length)
def hu_ask1 (Ds : List dc) (SS : List (List Int)) (i v : Nat) (q : Int × Int) : Int × Int := if hu_most Ds SS i v < q.2 then (10 * (i : Int) + v, hu_most Ds SS i v) else q
def hu_ask (Ds : List dc) (SS : List (List Int)) : Int := if SS.length = 0 then -1 else (upto Ds.length (fun i q => upto (da_D Ds i).1.length (fun v q => hu_ask1 Ds SS i v q) q) ((-1 : Int), (268435456 : Int))).1
section
variable {E : pw_E} {d : Nat} {w : pw_W} {Ds : List dc} {a hu wl b cap : Nat} {t : Int} {mc : Int32} {ws : List Nat} {SS : List (List Int)}
def c_hw (E : pw_E) (h : pw_H) (wl : Nat) (SS : List (List Int)) : Prop := ∃ (mc : Int32) (b cap : Nat) (ws : List Nat), c_al E h wl mc b cap (ws.map some) ∧ ws.length = SS.length ∧ (∀ (i w : Nat) (s : List Int), ws[i]? = some w → SS[i]? = some s → c_str h w s) ∧ SS.length ≤ 800
theorem c_hw.mono {p h : pw_H} (k : c_hw E p wl SS) (z : c_sub p h) : c_hw E h wl SS := by
  obtain ⟨mc, b, cap, ws, h1, h2, h3, h4⟩ := k
  exact ⟨mc, b, cap, ws, h1.mono z, h2, fun i w s h5 h6 => (h3 i w s h5 h6).mono z, h4⟩
theorem hu_sure_ok {K : Int32 → pw_W → Prop} (hd : 7 ≤ d) (hw : wf E w) (hh : w.1 hu = some (16, [va_rf (some a), va_rf (some wl)])) (hl : c_hw E w.1 wl SS) (h1 : ∀ s ∈ SS, 1 ≤ s.length) (H : ∀ w', cx E w w' c_no 8 → K (iI (hu_sure (-1) SS)) w') : pw_Cl E m_X17_sure d [va_rf (some hu)] w (c_i K) := by
  replace hd := pw_d1 hd; obtain ⟨e, rfl, hd⟩ := hd
  obtain ⟨mc, b, cap, ws, k1, k2, k3, k4⟩ := hl
  refine e_X17_sure _ (s_X17_sure_0 _ ⟨hu, _, _, rfl, hh, rfl, wl, _, rfl, k1.1, cl_iterator_ok (by omega) hw k1 (fun w1 c1 n1 i1 => ?_)⟩)
  have key : ∀ (f k : Nat) (u : pw_W) (x : Int), k + f = SS.length → cx E w u c_no 8 → c_it u.1 w.2.1 k mc wl → (x = -1 ∨ 0 ≤ x ∧ x ≤ 100) → hu_sure (-1) SS = hu_sure x (SS.drop k) → pw_Wp E m_X17_sure (e + 1) 10 [none, some (.int (iI x)), some (va_rf (some w.2.1)), none, none] [] u (c_i K) := by
    intro f
    induction f with
    | zero =>
      intro k u x hk cu it hx he
      refine s_X17_sure_10 _ _ (cl_step (by omega) it hw.b (k1.mono cu.sub1) (by simp; omega) (fun _ => ⟨_, rfl, ?_⟩) (fun y o hy => ?_))
      · have := H u cu
        rw [he, List.drop_eq_nil_of_le (by omega)] at this
        exact this
      · have := (List.getElem?_eq_some_iff.mp hy).1
        rw [List.length_map] at this
        omega
    | succ f ih =>
      intro k u x hk cu it hx he
      refine s_X17_sure_10 _ _ (cl_step (by omega) it hw.b (k1.mono cu.sub1) (by simp; omega) (fun q => by simp at q; omega) (fun y o hy hi ho => ?_))
      obtain ⟨c, hc⟩ := dc_get (l := ws) (i := k) (by omega)
      obtain ⟨s, hs⟩ := dc_get (l := SS) (i := k) (by omega)
      rw [List.getElem?_map, hc] at hy
      cases hy
      have c2 := it.cx hw cu (Nat.le_refl _) o
      have hstr := (k3 k c s hc hs).mono c2.sub1
      have hsl := h1 s (List.mem_of_getElem? hs)
      obtain ⟨l0, hl0⟩ := dc_get (l := s) (i := 0) (by omega)
      have hstr0 := hstr
      obtain ⟨b', v2, v3, s1, s2, s3, s4⟩ := hstr0
      have hl1 := s4 l0 (List.mem_of_getElem? hl0)
      have ec : hu_c s = l0 - 97 + 1 := by unfold hu_c; rw [dc_getD hl0]
      refine ⟨Or.inr ⟨c, 21, _, rfl, s1, c_canS⟩, c, _, rfl, s1, cs_charAt_ok (i := 0) (by omega) c2.ok hstr hl0 ?_⟩
      have ev : iI l0 - 97 + 1 = iI (hu_c s) := by
        have e1 : iI l0 - iI 97 = iI (l0 - 97) := iI_sub _ 97
        have e2 : iI (l0 - 97) + 1 = iI (l0 - 97 + 1) := iI_a1 _
        rw [ec, ← e2, ← e1]
        rfl
      rw [List.drop_eq_getElem_cons (show k < SS.length by omega)] at he
      have hsk : SS[k] = s := by
        have := List.getElem?_eq_getElem (show k < SS.length by omega)
        rw [hs] at this
        exact (Option.some.inj this).symm
      rw [hsk] at he
      have he : hu_sure (-1) SS = if x = -1 then hu_sure (hu_c s) (SS.drop (k + 1)) else if x = hu_c s then hu_sure (hu_c s) (SS.drop (k + 1)) else -1 := he
      rw [ev]
      have m1 : (iI x = -1) = (x = -1) := iI_eq (b := -1) (rI_small (by omega) (by omega)) (rI_small (by omega) (by omega))
      have m2 : (iI x = iI (hu_c s)) = (x = hu_c s) := iI_eq (rI_small (by omega) (by omega)) (rI_small (by omega) (by omega))
      by_cases z : x = -1
      · rw [if_pos z] at he
        exact ifT (by rw [m1]; exact z) (ih (k + 1) _ (hu_c s) (by omega) c2 hi (Or.inr (by omega)) he)
      · rw [if_neg z] at he
        refine ifF (by rw [m1]; exact z) ?_
        by_cases y : x = hu_c s
        · rw [if_pos y] at he
          exact ifT (by rw [m2]; exact y) (ih (k + 1) _ (hu_c s) (by omega) c2 hi (Or.inr (by omega)) he)
        · rw [if_neg y] at he
          have := H _ c2
          rw [he] at this
          exact ifF (by rw [m2]; exact y) ⟨_, rfl, this⟩
  exact key SS.length 0 w1 (-1) (by omega) c1 i1 (Or.inl rfl) (by rw [List.drop_zero])
theorem hu_cnt_r (Ds : List dc) (SS : List (List Int)) (i v : Int) (k : Nat) : 0 ≤ hu_cnt Ds SS i v k ∧ hu_cnt Ds SS i v k ≤ k := upto_cnt (c := fun j => da_has Ds (SS.getD j []) i v = true) k
theorem hu_most_ok {i v : Int} {K : Int32 → pw_W → Prop} (hd : 9 ≤ d) (hw : wf E w) (hA : c_arch E w.1 w.1 a Ds t) (hD : da_ok Ds) (hh : w.1 hu = some (16, [va_rf (some a), va_rf (some wl)])) (hl : c_hw E w.1 wl SS) (hi : rI i) (hv : rI v) (H : ∀ w', cx E w w' c_no 8 → K (iI (hu_most Ds SS i v)) w') : pw_Cl E m_X17_most d [va_rf (some hu), .int (iI i), .int (iI v)] w (c_i K) := by
  replace hd := pw_d1 hd; obtain ⟨e, rfl, hd⟩ := hd
  obtain ⟨mc, b, cap, ws, k1, k2, k3, k4⟩ := hl
  refine e_X17_most _ _ _ (s_X17_most_0 _ _ _ ⟨hu, _, _, rfl, hh, rfl, wl, _, rfl, k1.1, cl_iterator_ok (by omega) hw k1 (fun w1 c1 n1 i1 => ?_)⟩)
  have key : ∀ (f k : Nat) (u : pw_W), k + f = SS.length → cx E w u c_no 8 → c_it u.1 w.2.1 k mc wl → pw_Wp E m_X17_most (e + 1) 11 [some (va_rf (some hu)), some (.int (iI i)), some (.int (iI v)), some (.int (iI (hu_cnt Ds SS i v k))), some (va_rf (some w.2.1)), none] [] u (c_i K) := by
    intro f
    induction f with
    | zero =>
      intro k u hk cu it
      have : k = SS.length := by omega
      subst this
      have hr := hu_cnt_r Ds SS i v SS.length
      refine s_X17_most_11 _ _ _ _ _ (cl_step (by omega) it hw.b (k1.mono cu.sub1) (by simp; omega) (fun _ => ⟨hu, _, _, rfl, cu.at hh, rfl, wl, _, rfl, cu.at k1.1, cl_size_ok (by omega) (k1.mono cu.sub1) ⟨_, rfl, ?_⟩⟩) (fun y o hy => ?_))
      · rw [List.length_map, k2, iI_sub]
        have m1 : (iI (hu_cnt Ds SS i v SS.length) < iI ((SS.length : Int) - hu_cnt Ds SS i v SS.length)) = (hu_cnt Ds SS i v SS.length < (SS.length : Int) - hu_cnt Ds SS i v SS.length) := iI_lt (rI_small (by omega) (by omega)) (rI_small (by omega) (by omega))
        have := H u cu
        unfold hu_most at this
        by_cases z : hu_cnt Ds SS i v SS.length < (SS.length : Int) - hu_cnt Ds SS i v SS.length
        · rw [Int.max_eq_right (by omega)] at this
          rw [if_pos (by rw [m1]; exact z)]
          exact this
        · rw [Int.max_eq_left (by omega)] at this
          rw [if_neg (by rw [m1]; exact z)]
          exact this
      · have := (List.getElem?_eq_some_iff.mp hy).1
        rw [List.length_map] at this
        omega
    | succ f ih =>
      intro k u hk cu it
      refine s_X17_most_11 _ _ _ _ _ (cl_step (by omega) it hw.b (k1.mono cu.sub1) (by simp; omega) (fun q => by simp at q; omega) (fun y o hy hi' ho => ?_))
      obtain ⟨c, hc⟩ := dc_get (l := ws) (i := k) (by omega)
      obtain ⟨s, hs⟩ := dc_get (l := SS) (i := k) (by omega)
      rw [List.getElem?_map, hc] at hy
      cases hy
      have c2 := it.cx hw cu (Nat.le_refl _) o
      have hstr := (k3 k c s hc hs).mono c2.sub1
      have hstr0 := hstr
      obtain ⟨b', v2, v3, s1, s2⟩ := hstr0
      have nx := ih (k + 1) _ (by omega) c2 hi'
      rw [show hu_cnt Ds SS i v (k + 1) = hu_cnt Ds SS i v k + (if da_has Ds s i v = true then 1 else 0) by unfold hu_cnt; rw [upto_s, dc_getD hs]] at nx
      refine ⟨Or.inr ⟨c, 21, _, rfl, s1, c_canS⟩, hu, _, rfl, c2.at hh, hu_isIn_ok (by omega) c2.ok (hA.mono c2.sub1 c2.sub1) hD (c2.at hh) hstr hi hv ?_⟩
      cases hz : da_has Ds s i v with
      | false =>
        rw [hz, if_neg (by decide), Int.add_zero] at nx
        refine ifT (by decide) ?_
        rw [iI_a0]
        exact nx
      | true =>
        rw [hz, if_pos rfl] at nx
        refine ifF (by decide) ?_
        rw [iI_a1]
        exact nx
  exact key SS.length 0 w1 (by omega) c1 i1
theorem hu_ask_ok {K : Int32 → pw_W → Prop} (hd : 12 ≤ d) (hw : wf E w) (hA : c_arch E w.1 w.1 a Ds t) (hD : da_ok Ds) (hh : w.1 hu = some (16, [va_rf (some a), va_rf (some wl)])) (hl : c_hw E w.1 wl SS) (H : ∀ w', cx E w w' c_no 640 → K (iI (hu_ask Ds SS)) w') : pw_Cl E m_X17_ask d [va_rf (some hu)] w (c_i K) := by
  replace hd := pw_d1 hd; obtain ⟨e, rfl, hd⟩ := hd
  have hlD := hD.1
  refine e_X17_ask _ (s_X17_ask_0 _ ?_)
  have hl4 : SS.length ≤ 800 := by obtain ⟨mc, b, cap, ws, k1, k2, k3, k4⟩ := hl; exact k4
  have empty : ∀ (u : pw_W) (Q : Bool → pw_W → Prop), cx E w u c_no 640 → Q (decide (SS.length = 0)) u → f_getr u (some hu) 16 1 (fun x => f_V E u x 18 m_J2_isEmpty e [] (c_z Q)) := by
    intro u Q cu hQ
    obtain ⟨mc, b, cap, ws, k1, k2, k3, k4⟩ := hl
    refine ⟨hu, _, _, rfl, cu.at hh, rfl, wl, _, rfl, cu.at k1.1, cl_isEmpty_ok (by omega) (k1.mono cu.sub1) ?_⟩
    rw [List.length_map, k2]
    exact hQ
  have mr : ∀ i v : Nat, 0 ≤ hu_most Ds SS i v ∧ hu_most Ds SS i v ≤ 800 := by
    intro i v
    have := hu_cnt_r Ds SS i v SS.length
    unfold hu_most
    omega
  by_cases z : SS.length = 0
  · unfold hu_ask at H
    rw [if_pos z] at H
    show pw_Wp E m_X17_ask (e + 1) 7 [some (va_rf (some hu)), some (.int (iI (-1))), some (.int 268435456), some (.int (iI ((0 : Nat) : Int))), none] [] w _
    refine s_X17_ask_7 _ _ _ _ ⟨hu, _, _, rfl, hh, rfl, qa_many (by omega) hA ?_⟩
    by_cases y : Ds.length ≤ 0
    · exact ifT (by rw [iI_len (by omega) (by omega)]; exact y) ⟨_, rfl, H w (cx.refl hw)⟩
    · refine ifF (by rw [iI_len (by omega) (by omega)]; exact y) (empty w _ (cx.refl hw) ?_)
      rw [decide_eq_true z]
      exact ifF (by decide) ⟨_, rfl, H w (cx.refl hw)⟩
  · unfold hu_ask at H
    rw [if_neg z] at H
    have key : ∀ (f i : Nat) (u : pw_W) (q : Int × Int), i + f = Ds.length → cx E w u c_no (160 * i) → (-1 ≤ q.1 ∧ q.1 ≤ 100) → (0 ≤ q.2 ∧ q.2 ≤ 268435456) → q = upto i (fun i q => upto (da_D Ds i).1.length (fun v q => hu_ask1 Ds SS i v q) q) ((-1 : Int), (268435456 : Int)) → pw_Wp E m_X17_ask (e + 1) 7 [some (va_rf (some hu)), some (.int (iI q.1)), some (.int (iI q.2)), some (.int (iI (i : Nat))), none] [] u (c_i K) := by
      intro f
      induction f with
      | zero =>
        intro i u q hi cu q1 q2 hq
        have : i = Ds.length := by omega
        subst this
        rw [← hq] at H
        exact s_X17_ask_7 _ _ _ _ ⟨hu, _, _, rfl, cu.at hh, rfl, qa_many (by omega) (hA.mono cu.sub1 cu.sub1) (ifT (by rw [iI_len (by omega) (by omega)]; omega) ⟨_, rfl, H u (cu.le (by omega))⟩)⟩
      | succ f ih =>
        intro i u q hi cu q1 q2 hq
        obtain ⟨D, hd1⟩ := dc_get (l := Ds) (i := i) (by omega)
        obtain ⟨g1, g2, g3, g4, g5, g6, g7⟩ := hD.at hd1
        refine s_X17_ask_7 _ _ _ _ ⟨hu, _, _, rfl, cu.at hh, rfl, qa_many (by omega) (hA.mono cu.sub1 cu.sub1) (ifF (by rw [iI_len (by omega) (by omega)]; omega) (empty u _ (cu.le (by omega)) ?_))⟩
        rw [decide_eq_false z]
        refine ifT (by decide) ?_
        have inn : ∀ (g v : Nat) (u' : pw_W) (r : Int × Int), v + g = D.1.length → cx E w u' c_no (160 * i + 16 * v) → (-1 ≤ r.1 ∧ r.1 ≤ 100) → (0 ≤ r.2 ∧ r.2 ≤ 268435456) → r = upto v (fun v q => hu_ask1 Ds SS i v q) q → pw_Wp E m_X17_ask (e + 1) 31 [some (va_rf (some hu)), some (.int (iI r.1)), some (.int (iI r.2)), some (.int (iI (i : Nat))), some (.int (iI (v : Nat)))] [] u' (c_i K) := by
          intro g
          induction g with
          | zero =>
            intro v u' r hv cu' r1 r2 hr
            have : v = D.1.length := by omega
            subst this
            refine s_X17_ask_31 _ _ _ _ _ ⟨hu, _, _, rfl, cu'.at hh, rfl, qa_of (by omega) (hA.mono cu'.sub1 cu'.sub1) hd1 (fun b hb => dq_many (by omega) hb (ifT (by rw [iI_len (by omega) (by omega)]; omega) ?_))⟩
            rw [iI_ad1]
            exact ih (i + 1) u' r (by omega) (cu'.le (by omega)) r1 r2 (by rw [upto_s, ← hq, g3]; exact hr)
          | succ g ih2 =>
            intro v u' r hv cu' r1 r2 hr
            have hmr := mr i v
            refine s_X17_ask_31 _ _ _ _ _ ⟨hu, _, _, rfl, cu'.at hh, rfl, qa_of (by omega) (hA.mono cu'.sub1 cu'.sub1) hd1 (fun b hb => dq_many (by omega) hb (ifF (by rw [iI_len (by omega) (by omega)]; omega) ?_))⟩
            refine ⟨hu, _, rfl, cu'.at hh, hu_most_ok (by omega) cu'.ok (hA.mono cu'.sub1 cu'.sub1) hD (cu'.at hh) (hl.mono cu'.sub1) (rI_small (by omega) (by omega)) (rI_small (by omega) (by omega)) (fun u2 c2 => ?_)⟩
            have cu2 := cu'.tr c2
            have hr2 : (if hu_most Ds SS i v < r.2 then (10 * (i : Int) + v, hu_most Ds SS i v) else r) = upto (v + 1) (fun v q => hu_ask1 Ds SS i v q) q := by
              rw [upto_s, ← hr]
              rfl
            have m1 : (iI (hu_most Ds SS i v) < iI r.2) = (hu_most Ds SS i v < r.2) := iI_lt (rI_small (by omega) (by omega)) (rI_small (by omega) (by omega))
            by_cases y : hu_most Ds SS i v < r.2
            · rw [if_pos y] at hr2
              refine ifT (by rw [m1]; exact y) ⟨hu, _, rfl, cu2.at hh, hu_most_ok (by omega) cu2.ok (hA.mono cu2.sub1 cu2.sub1) hD (cu2.at hh) (hl.mono cu2.sub1) (rI_small (by omega) (by omega)) (rI_small (by omega) (by omega)) (fun u3 c3 => ?_)⟩
              have e1 : (10 * iI (i : Nat)) + iI (v : Nat) = iI (10 * (i : Int) + v) := by
                have : iI 10 * iI (i : Nat) = iI (10 * (i : Int)) := iI_mul 10 _
                rw [show (10 : Int32) = iI 10 from rfl, this, iI_add]
              rw [e1, iI_ad1]
              exact ih2 (v + 1) u3 (10 * (i : Int) + v, hu_most Ds SS i v) (by omega) ((cu2.tr c3).le (by omega)) (by show -1 ≤ 10 * (i : Int) + v ∧ 10 * (i : Int) + v ≤ 100; omega) (by show 0 ≤ hu_most Ds SS i v ∧ hu_most Ds SS i v ≤ 268435456; omega) hr2
            · rw [if_neg y] at hr2
              refine ifF (by rw [m1]; exact y) ?_
              rw [iI_ad1]
              exact ih2 (v + 1) u2 r (by omega) (cu2.le (by omega)) r1 r2 hr2
        exact inn D.1.length 0 u q (by omega) (cu.le (by omega)) q1 q2 rfl
    exact key Ds.length 0 w (-1, 268435456) (by omega) (cx.refl hw) (by decide) (by decide) rfl
end
