set_option maxRecDepth 100000
/-! the component: what is kept once asked -/
section
variable {E : pw_E} {p : pw_H} {L : List kE} {Ds : List dc} {J d0 : Nat} {u : pw_W}
theorem ka_ld {a i : Nat} {g : Nat → Int} {K : Int32 → Prop} (h : u.1 a = some (k_ar g)) (hi : i < 4) (H : K (iI (g i))) : f_aldi u (some a) (iI (i : Nat)) K := by
  refine ⟨a, 0, _, _, rfl, h, rfl, iI_n0 (by omega), ?_, H⟩
  rw [iI_nn (by omega), List.getElem?_map, List.getElem?_range hi]
  rfl
theorem ka_st {a i : Nat} {g : Nat → Int} {z : Int} {K : pw_W → Prop} (h : u.1 a = some (k_ar g)) (hb : pw_base E ≤ a) (hi : i < 4) (H : K (pw_up u a (k_ar (fun j => if j = i then z else g j)))) : f_asti E u (some a) (iI (i : Nat)) (iI z) K := by
  refine ⟨a, _, rfl, h, hb, iI_n0 (by omega), by rw [iI_nn (by omega)]; simp; omega, ?_⟩
  rw [iI_nn (by omega)]
  have e : ((List.range 4).map (fun j => Value.int (iI (g j)))).set i (.int (iI z)) = (List.range 4).map (fun j => Value.int (iI (if j = i then z else g j))) := by
    apply List.ext_getElem?
    intro k
    by_cases hk : k < 4
    · rw [List.getElem?_map, List.getElem?_range hk]
      by_cases q : i = k
      · subst q
        rw [List.getElem?_set_self (by simp; omega)]
        simp
      · rw [List.getElem?_set_ne q, List.getElem?_map, List.getElem?_range hk]
        simp [Ne.symm q]
    · rw [List.getElem?_eq_none (by simp; omega), List.getElem?_eq_none (by simp; omega)]
  rw [e]
  exact H
theorem kept_fin {j : Nat} {e0 : kE} {i v : Nat} {z : Int} {X Y : Nat → Int} {K : Bool → pw_W → Prop} (hP : kP E p L) (hj : L[j]? = some e0) (hI : kI E p L u) (hi : i < 4) (hv : v < 10) (hX : u.1 e0.2.2.1 = some (k_ar X)) (hY : u.1 e0.2.2.2.1 = some (k_ar Y)) (hR : ∀ i : Nat, i < 4 → kR (X i) (Y i) (e0.2.2.2.2 i)) (hu : s_has (X i) v = false) (hz : z = Y i ∧ e0.2.2.2.2 i v = false ∨ z = s_or (Y i) (s_bit v) ∧ e0.2.2.2.2 i v = true)
    (H : ∀ u', kI E p L u' → cx E u u' (k_F (L.take (j + 1))) 0 → u'.2 = u.2 → K (e0.2.2.2.2 i v) u') :
    f_asti E u (some e0.2.2.2.1) (iI (i : Nat)) (iI z) (fun w38 => f_getr w38 (some e0.1) 13 1 (fun x39 => f_aldi w38 x39 (iI (i : Nat)) (fun x43 => f_asti E w38 x39 (iI (i : Nat)) (x43 ||| (1 <<< (iI v &&& 31))) (fun w52 => f_getr w52 (some e0.1) 13 2 (fun x53 => f_aldi w52 x53 (iI (i : Nat)) (fun x57 => (if ((x57 >>> (iI v &&& 31)) &&& 1) = 1 then c_z K (.inl (some (.int 1))) w52 else c_z K (.inl (some (.int 0))) w52))))))) := by
  have hem := List.mem_of_getElem? hj
  obtain ⟨b1, b2, n1, n2, hk⟩ := hP.1 e0 hem
  obtain ⟨ap, -⟩ := hP.2 j j e0 e0 hj hj
  have nk1 : e0.1 ≠ e0.2.2.1 := by intro q; rw [q, n1] at hk; cases hk
  have nk2 : e0.1 ≠ e0.2.2.2.1 := by intro q; rw [q, n2] at hk; cases hk
  have hku := hI.2.1 _ _ hk
  have hF1 : k_F (L.take (j + 1)) e0.2.2.1 := ⟨e0, List.mem_of_getElem? (by rw [List.getElem?_take_of_lt (show j < j + 1 by omega)]; exact hj), Or.inl rfl⟩
  have hF2 : k_F (L.take (j + 1)) e0.2.2.2.1 := ⟨e0, List.mem_of_getElem? (by rw [List.getElem?_take_of_lt (show j < j + 1 by omega)]; exact hj), Or.inr rfl⟩
  have c1 : cx E u (pw_up u e0.2.2.2.1 (k_ar (fun k => if k = i then z else Y k))) (k_F (L.take (j + 1))) 0 := cx.up hI.1 _ hY b2 hF2
  have hX1 : (pw_up u e0.2.2.2.1 (k_ar (fun k => if k = i then z else Y k))).1 e0.2.2.1 = some (k_ar X) := by rw [pw_up_ne ap]; exact hX
  have c2 : cx E (pw_up u e0.2.2.2.1 (k_ar (fun k => if k = i then z else Y k))) (pw_up (pw_up u e0.2.2.2.1 (k_ar (fun k => if k = i then z else Y k))) e0.2.2.1 (k_ar (fun k => if k = i then s_or (X i) (s_bit v) else X k))) (k_F (L.take (j + 1))) 0 := cx.up c1.ok _ hX1 b1 hF1
  have hk1 : (pw_up u e0.2.2.2.1 (k_ar (fun k => if k = i then z else Y k))).1 e0.1 = some (13, [va_rf (some e0.2.1), va_rf (some e0.2.2.1), va_rf (some e0.2.2.2.1)]) := by rw [pw_up_ne nk2]; exact hku
  have hY2 : (pw_up (pw_up u e0.2.2.2.1 (k_ar (fun k => if k = i then z else Y k))) e0.2.2.1 (k_ar (fun k => if k = i then s_or (X i) (s_bit v) else X k))).1 e0.2.2.2.1 = some (k_ar (fun k => if k = i then z else Y k)) := by rw [pw_up_ne (Ne.symm ap)]; exact pw_up_1 _ _ _
  have hX2 : (pw_up (pw_up u e0.2.2.2.1 (k_ar (fun k => if k = i then z else Y k))) e0.2.2.1 (k_ar (fun k => if k = i then s_or (X i) (s_bit v) else X k))).1 e0.2.2.1 = some (k_ar (fun k => if k = i then s_or (X i) (s_bit v) else X k)) := pw_up_1 _ _ _
  have hk2 : (pw_up (pw_up u e0.2.2.2.1 (k_ar (fun k => if k = i then z else Y k))) e0.2.2.1 (k_ar (fun k => if k = i then s_or (X i) (s_bit v) else X k))).1 e0.1 = some (13, [va_rf (some e0.2.1), va_rf (some e0.2.2.1), va_rf (some e0.2.2.2.1)]) := by rw [pw_up_ne nk1]; exact hk1
  have hRi := hR i hi
  have hI2 : kI E p L (pw_up (pw_up u e0.2.2.2.1 (k_ar (fun k => if k = i then z else Y k))) e0.2.2.1 (k_ar (fun k => if k = i then s_or (X i) (s_bit v) else X k))) := by
    refine ⟨c2.ok, fun q o hq => ?_, fun f hf => ?_⟩
    · rw [pw_up_ne (by rintro rfl; rw [n1] at hq; cases hq), pw_up_ne (by rintro rfl; rw [n2] at hq; cases hq)]
      exact hI.2.1 q o hq
    · obtain ⟨k, hk'⟩ := List.getElem?_of_mem hf
      by_cases q : k = j
      · subst q
        rw [hj] at hk'
        cases hk'
        refine ⟨_, _, hX2, hY2, fun i' hi' => ?_⟩
        by_cases y : i' = i
        · subst y
          rw [if_pos rfl, if_pos rfl]
          obtain ⟨r1, r2, r3⟩ := hRi
          refine ⟨s_or_r r1 hv, ?_, fun v' hv' => ?_⟩
          · rcases hz with ⟨hz, -⟩ | ⟨hz, -⟩
            · rw [hz]; exact r2
            · rw [hz]; exact s_or_r r2 hv
          · rw [s_has_or _ _ (by omega), s_has_bit1 hv hv']
            obtain ⟨t1, t2⟩ := r3 v' hv'
            obtain ⟨t3, t4⟩ := r3 v hv
            by_cases x : v = v'
            · subst x
              rw [decide_eq_true rfl, Bool.or_true]
              refine ⟨fun _ => ?_, fun h => by cases h⟩
              rcases hz with ⟨hz, hφ⟩ | ⟨hz, hφ⟩
              · rw [hz, hφ]; exact t4 hu
              · rw [hz, hφ, s_has_or _ _ (by omega), s_has_bit1 hv hv, decide_eq_true rfl, Bool.or_true]
            · rw [decide_eq_false x, Bool.or_false]
              rcases hz with ⟨hz, hφ⟩ | ⟨hz, hφ⟩
              · rw [hz]; exact ⟨t1, t2⟩
              · rw [hz, s_has_or _ _ (by omega), s_has_bit1 hv hv', decide_eq_false x, Bool.or_false]; exact ⟨t1, t2⟩
        · rw [if_neg y, if_neg y]
          exact hR i' hi'
      · obtain ⟨X', Y', x1, x2, x3⟩ := hI.2.2 f hf
        obtain ⟨y1, y2⟩ := hP.2 k j f e0 hk' hj
        obtain ⟨y3, -⟩ := hP.2 j k e0 f hj hk'
        obtain ⟨y4, y5⟩ := y2 q
        exact ⟨X', Y', by rw [pw_up_ne y4, pw_up_ne y1]; exact x1, by rw [pw_up_ne (Ne.symm y3), pw_up_ne y5]; exact x2, x3⟩
  have hH := H _ hI2 ((c1.tr c2).le (by omega)) rfl
  refine ka_st hY b2 hi ⟨e0.1, _, _, rfl, hk1, rfl, ka_ld hX1 hi ?_⟩
  show f_asti E _ _ _ (iI (X i) ||| (1 <<< (iI v &&& 31))) _
  rw [iI_orb]
  refine ka_st hX1 b1 hi ⟨e0.1, _, _, rfl, hk2, rfl, ka_ld hY2 hi ?_⟩
  rw [if_pos (show i = i from rfl)]
  show if ((iI z >>> (iI v &&& 31)) &&& 1) = 1 then _ else _
  have hzv : s_has z v = e0.2.2.2.2 i v := by
    rcases hz with ⟨hz, hφ⟩ | ⟨hz, hφ⟩
    · rw [hz, hφ]; exact (hRi.2.2 v hv).2 hu
    · rw [hz, hφ, s_has_or _ _ (by omega), s_has_bit1 hv hv, decide_eq_true rfl, Bool.or_true]
  cases hb : e0.2.2.2.2 i v with
  | false =>
    rw [hb] at hzv hH
    exact ifF (by rw [s_has_e1, hzv]; decide) ⟨false, rfl, hH⟩
  | true =>
    rw [hb] at hzv hH
    exact ifT (by rw [s_has_e1, hzv]) ⟨true, rfl, hH⟩
theorem kH.kept {j : Nat} {e0 : kE} (hP : kP E p L) (hD : da_ok Ds) (hj : L[j]? = some e0) (h : kH E p L Ds j d0 e0.2.1 e0.2.2.2.2) : kH E p L Ds (j + 1) (d0 + 1) e0.1 e0.2.2.2.2 := by
  intro d u i v D K hd hI hi hv H
  have hem := List.mem_of_getElem? hj
  obtain ⟨b1, b2, n1, n2, hk⟩ := hP.1 e0 hem
  obtain ⟨g1, g2, g3, g4, g5, g6, g7⟩ := hD.at hi
  have hku := hI.2.1 _ _ hk
  obtain ⟨e, rfl, hd1⟩ := pw_d1 hd
  obtain ⟨X, Y, hX, hY, hR⟩ := hI.2.2 e0 hem
  have hRi := hR i (by omega)
  refine ⟨e0.1, rfl, Or.inl ⟨13, _, _, m_X14_holds, hku, rfl, k_X14_holds, q2051, q2049, pw_fwm 11 rfl, e_X14_holds _ _ _ (s_X14_holds_0 _ _ _ ⟨e0.1, _, _, rfl, hku, rfl, ka_ld hX (by omega) ?_⟩)⟩⟩
  by_cases q : s_has (X i) v = false
  · refine ifT (by rw [s_has_e0]; exact q) ⟨e0.1, _, _, rfl, hku, rfl, ka_ld hY (by omega) ⟨e0.1, _, _, rfl, hku, rfl, h e u i v D _ hd1 hI hi hv (fun u' hI' c' n' => ?_)⟩⟩
    have nF : ∀ a, (a = e0.2.2.1 ∨ a = e0.2.2.2.1) → ¬ k_F (L.take j) a := by
      rintro a ha ⟨f, hf, hfa⟩
      obtain ⟨k, hk'⟩ := List.getElem?_of_mem hf
      have hkj : k < j := by
        have := (List.getElem?_eq_some_iff.mp hk').1
        simp at this
        omega
      rw [List.getElem?_take_of_lt hkj] at hk'
      obtain ⟨y1, y2⟩ := hP.2 j k e0 f hj hk'
      obtain ⟨y3, -⟩ := hP.2 k j f e0 hk' hj
      obtain ⟨y4, y5⟩ := y2 (by omega)
      rcases ha with rfl | rfl
      · rcases hfa with t | t
        · exact y4 t
        · exact y1 t
      · rcases hfa with t | t
        · exact y3 t.symm
        · exact y5 t
    have hX' := c'.keep hX (nF _ (Or.inl rfl))
    have hY' := c'.keep hY (nF _ (Or.inr rfl))
    have H' : ∀ u'', kI E p L u'' → cx E u' u'' (k_F (L.take (j + 1))) 0 → u''.2 = u'.2 → K (e0.2.2.2.2 i v) u'' := fun u'' t1 t2 t3 => H u'' t1 (((c'.mono (fun a _ _ z => k_F_le (Nat.le_succ j) a z) (Nat.le_refl _)).tr t2).le (by omega)) (t3.trans n')
    cases hb : e0.2.2.2.2 i v with
    | false =>
      refine ifT (by decide) ?_
      show f_asti E u' _ _ (iI (Y i) ||| 0) _
      rw [iI_or0]
      exact kept_fin hP hj hI' (by omega) (by omega) hX' hY' hR q (Or.inl ⟨rfl, hb⟩) H'
    | true =>
      refine ifF (by decide) ?_
      show f_asti E u' _ _ (iI (Y i) ||| (1 <<< (iI v &&& 31))) _
      rw [iI_orb]
      exact kept_fin hP hj hI' (by omega) (by omega) hX' hY' hR q (Or.inr ⟨rfl, hb⟩) H'
  · rw [Bool.not_eq_false] at q
    refine ifF (by rw [s_has_e0, q]; decide) ⟨e0.1, _, _, rfl, hku, rfl, ka_ld hY (by omega) ?_⟩
    have hyv := (hRi.2.2 v (by omega)).1 q
    have hH := H u hI (cx.refl hI.1) rfl
    show if ((iI (Y i) >>> (iI v &&& 31)) &&& 1) = 1 then _ else _
    cases hb : e0.2.2.2.2 i v with
    | false =>
      rw [hb] at hyv hH
      exact ifF (by rw [s_has_e1, hyv]; decide) ⟨false, rfl, hH⟩
    | true =>
      rw [hb] at hyv hH
      exact ifT (by rw [s_has_e1, hyv]) ⟨true, rfl, hH⟩
end
