set_option maxRecDepth 100000
/-! the component: an archive's dates; what two versions have in common -/
theorem c_doc.dates {E : pw_E} {h : pw_H} {a : Nat} {D : dc} (k : c_doc E h h a D) : ∃ (lv lt ld bd cd : Nat) (md : Int32) (ds : List Nat), h a = some (6, [va_rf (some lv), va_rf (some lt), va_rf (some ld)]) ∧ c_al E h ld md bd cd (ds.map some) ∧ ds.length = D.2.2.length ∧ ∀ (i b : Nat) (x : Int), ds[i]? = some b → D.2.2[i]? = some x → c_box h b x := by
  obtain ⟨lv, bv, cv, mv, lt, bt, ct, mt, ld, bd, cd, md, rs, ts, ds, h1, h2, h3, h4, h5, h6, ⟨h7, h8⟩, -⟩ := k
  exact ⟨lv, lt, ld, bd, cd, md, ds, h1, h4, h7, h8⟩
def da_datedP (Ds : List dc) (x r : Int) : Prop := (r = -1 ∧ ∀ (i : Nat) (D : dc), Ds[i]? = some D → x ∉ D.2.2) ∨ ∃ (i : Nat) (D : dc), r = i ∧ Ds[i]? = some D ∧ x ∈ D.2.2 ∧ ∀ (j : Nat) (D' : dc), j < i → Ds[j]? = some D' → x ∉ D'.2.2
def dc_lcsR (eq : Nat → Bool) (r : Nat → Int) : Nat → Int
  | 0 => 0
  | j + 1 => if eq j = true then r j + 1 else max (r (j + 1)) (dc_lcsR eq r j)
def dc_lcs (eq : Nat → Nat → Bool) : Nat → Nat → Int
  | 0 => fun _ => 0
  | i + 1 => dc_lcsR (eq i) (dc_lcs eq i)
theorem dc_lcs_s (eq : Nat → Nat → Bool) (i j : Nat) : dc_lcs eq (i + 1) (j + 1) = if eq i j = true then dc_lcs eq i j + 1 else max (dc_lcs eq i (j + 1)) (dc_lcs eq (i + 1) j) := rfl
theorem dc_lcs_r (eq : Nat → Nat → Bool) : ∀ i j : Nat, 0 ≤ dc_lcs eq i j ∧ dc_lcs eq i j ≤ i := by
  intro i
  induction i with
  | zero => intro j; exact ⟨Int.le_refl 0, Int.le_refl 0⟩
  | succ i ih =>
    intro j
    induction j with
    | zero => exact ⟨Int.le_refl 0, by show (0 : Int) ≤ _; omega⟩
    | succ j ij =>
      have h1 := ih j
      have h2 := ih (j + 1)
      rw [dc_lcs_s]
      split <;> omega
theorem dc_lcs_0 (eq : Nat → Nat → Bool) (i : Nat) : dc_lcs eq i 0 = 0 := by cases i <;> rfl
/-- a new array of ints -/
def n_ar (w : pw_W) (n : Nat) (g : Nat → Int) : pw_W := pw_new w (1000, (List.range n).map (fun j => Value.int (iI (g j)))) n
section
variable {E : pw_E} {d : Nat} {w : pw_W} {a : Nat} {Ds : List dc} {t : Int}
theorem n_ar_0 (n : Nat) : pw_new w (1000, List.replicate n (.int 0)) n = n_ar w n (fun _ => 0) := by
  unfold n_ar
  congr 2
  apply List.ext_getElem?
  intro i
  rw [List.getElem?_replicate, List.getElem?_map]
  by_cases h : i < n
  · rw [if_pos h, List.getElem?_range h]; rfl
  · rw [if_neg h, List.getElem?_eq_none (by simp; omega)]; rfl
theorem n_ar_ld {n i : Nat} {g : Nat → Int} {K : Int32 → Prop} (hi : i < n) (hn : n ≤ 100000) (H : K (iI (g i))) : f_aldi (n_ar w n g) (some w.2.1) (iI (i : Nat)) K := by
  refine ⟨w.2.1, 0, _, _, rfl, pw_new_1 _ _ _, rfl, iI_n0 (by omega), ?_, H⟩
  rw [iI_nn (by omega), List.getElem?_map, List.getElem?_range hi]
  rfl
theorem n_ar_st {n i : Nat} {g : Nat → Int} {z : Int} {K : pw_W → Prop} (hw : wf E w) (hi : i < n) (hn : n ≤ 100000) (H : K (n_ar w n (fun j => if j = i then z else g j))) : f_asti E (n_ar w n g) (some w.2.1) (iI (i : Nat)) (iI z) K := by
  refine ⟨w.2.1, _, rfl, pw_new_1 _ _ _, hw.b, iI_n0 (by omega), by rw [iI_nn (by omega)]; simp; omega, ?_⟩
  rw [iI_nn (by omega)]
  have e : pw_up (n_ar w n g) w.2.1 (1000, ((List.range n).map (fun j => Value.int (iI (g j)))).set i (.int (iI z))) = n_ar w n (fun j => if j = i then z else g j) := by
    unfold n_ar
    rw [pw_up_new]
    congr 2
    apply List.ext_getElem?
    intro k
    by_cases h : k < n
    · rw [List.getElem?_map, List.getElem?_range h]
      by_cases q : i = k
      · subst q
        rw [List.getElem?_set_self (by simp; omega)]
        simp
      · rw [List.getElem?_set_ne q, List.getElem?_map, List.getElem?_range h]
        simp [Ne.symm q]
    · rw [List.getElem?_eq_none (by simp; omega), List.getElem?_eq_none (by simp; omega)]
  rw [e]
  exact H
theorem n_ar_cx (hw : wf E w) (n : Nat) (g : Nat → Int) : cx E w (n_ar w n g) c_no (n + 4) := cx.new hw _ n
theorem ca_dated_ok {x : Int} {K : Int32 → pw_W → Prop} (hd : 5 ≤ d) (hw : wf E w) (h : c_arch E w.1 w.1 a Ds t) (hD : da_ok Ds) (hx : rI x) (H : ∀ w' r, cx E w w' c_no 40 → da_datedP Ds x r → K (iI r) w') : pw_Cl E m_X5_dated d [va_rf (some a), .int (iI x)] w (c_i K) := by
  replace hd := pw_d1 hd; obtain ⟨e, rfl, hd⟩ := hd
  have hl := hD.1
  refine e_X5_dated _ _ (s_X5_dated_0 _ _ ?_)
  have key : ∀ (f k : Nat) (u : pw_W), k + f = Ds.length → cx E w u c_no (8 * k) → (∀ (j : Nat) (D' : dc), j < k → Ds[j]? = some D' → x ∉ D'.2.2) → pw_Wp E m_X5_dated (e + 1) 2 [some (va_rf (some a)), some (.int (iI x)), some (.int (iI (k : Nat))), none, none] [] u (c_i K) := by
    intro f
    induction f with
    | zero =>
      intro k u hk c hn
      refine s_X5_dated_2 _ _ _ (qa_many (by omega) (h.mono c.sub1 c.sub1) (ifT (by rw [iI_len (by omega) (by omega)]; omega) ⟨_, rfl, H u (-1) (c.le (by omega)) (Or.inl ⟨rfl, fun i D q => hn i D ?_ q⟩)⟩))
      have := (List.getElem?_eq_some_iff.mp q).1
      omega
    | succ f ih =>
      intro k u hk c hn
      obtain ⟨D, hd1⟩ := dc_get (l := Ds) (i := k) (by omega)
      obtain ⟨g1, g2, g3, g4, g5, g6, g7⟩ := hD.at hd1
      refine s_X5_dated_2 _ _ _ (qa_many (by omega) (h.mono c.sub1 c.sub1) (ifF (by rw [iI_len (by omega) (by omega)]; omega) (qa_of (by omega) (h.mono c.sub1 c.sub1) hd1 (fun b hb => ?_))))
      obtain ⟨lv, lt, ld, bd, cd, md, ds, q1, q2, q3, q4⟩ := hb.dates
      refine ⟨b, _, _, rfl, q1, rfl, ld, _, rfl, q2.1, cl_iterator_ok (by omega) c.ok q2 (fun w1 c1 n1 i1 => ?_)⟩
      have inn : ∀ (g i : Nat) (u' : pw_W), i + g = ds.length → cx E u u' c_no 8 → c_it u'.1 u.2.1 i md ld → (∀ j y, j < i → D.2.2[j]? = some y → y ≠ x) → pw_Wp E m_X5_dated (e + 1) 22 [some (va_rf (some a)), some (.int (iI x)), some (.int (iI (k : Nat))), some (va_rf (some u.2.1)), none] [] u' (c_i K) := by
        intro g
        induction g with
        | zero =>
          intro i u' hi c' hit hy
          refine s_X5_dated_22 _ _ _ _ (cl_step (by omega) hit c.ok.b (q2.mono c'.sub1) (by simp; omega) (fun q => ?_) (fun o p ho => ?_))
          · rw [iI_ad1]
            refine ih (k + 1) u' (by omega) ((c.tr c').le (by omega)) (fun j D' hj hD' => ?_)
            by_cases z : j = k
            · subst z
              rw [hd1] at hD'
              cases hD'
              intro hm
              obtain ⟨j', hj', e'⟩ := List.getElem_of_mem hm
              exact hy j' x (by omega) (by rw [List.getElem?_eq_getElem hj', e']) rfl
            · exact hn j D' (by omega) hD'
          · have := (List.getElem?_eq_some_iff.mp ho).1
            simp at this
            omega
        | succ g ih2 =>
          intro i u' hi c' hit hy
          refine s_X5_dated_22 _ _ _ _ (cl_step (by omega) hit c.ok.b (q2.mono c'.sub1) (by simp; omega) (fun q => by simp at q; omega) (fun o p ho hi' hp => ?_))
          obtain ⟨bx, hbx⟩ := dc_get (l := ds) (i := i) (by omega)
          rw [List.getElem?_map, hbx] at ho
          cases ho
          obtain ⟨y, hyy⟩ := dc_get (l := D.2.2) (i := i) (by omega)
          have hbox := q4 i bx y hbx hyy
          have c2 := hit.cx c.ok c' (Nat.le_refl _) p
          have hbox2 : (pw_up u' u.2.1 p).1 bx = some (28, [.int (iI y)]) := c2.at hbox
          obtain ⟨e, rfl, hd'⟩ := pw_d1 hd
          refine ⟨Or.inr ⟨bx, 28, _, rfl, hbox2, c_canN⟩, bx, _, rfl, hbox2, e_J21_intValue _ (s_J21_intValue_0 _ ⟨bx, _, _, rfl, hbox2, rfl, _, rfl, ?_⟩)⟩
          have hyr := g4.2.2.2.2.2 y (List.mem_of_getElem? hyy)
          have e0 : (iI y = iI x) = (y = x) := iI_eq (rI_small (by omega) (by omega)) hx
          by_cases z : y = x
          · refine ifT (by rw [e0]; exact z) ⟨_, rfl, H _ _ ((c.tr c2).le (by omega)) (Or.inr ⟨k, D, rfl, hd1, ?_, fun j D' hj hD' => hn j D' hj hD'⟩)⟩
            rw [← z]
            exact List.mem_of_getElem? hyy
          · refine ifF (by rw [e0]; exact z) (ih2 (i + 1) _ (by omega) c2 hi' (fun j y' hj hy' => ?_))
            by_cases zz : j = i
            · subst zz
              rw [hyy] at hy'
              cases hy'
              exact z
            · exact hy j y' (by omega) hy'
      exact inn ds.length 0 w1 (by omega) c1 i1 (fun j y hj => by omega)
  exact key Ds.length 0 w (by omega) (cx.refl hw) (fun j D' hj => by omega)
theorem ca_common_ok {i v j u : Nat} {D D' : dc} {K : Int32 → pw_W → Prop} (hd : 6 ≤ d) (hw : wf E w) (h : c_arch E w.1 w.1 a Ds t) (hD : da_ok Ds) (hi : Ds[i]? = some D) (hv : v < D.1.length) (hj : Ds[j]? = some D') (hu : u < D'.1.length)
    (H : ∀ w', cx E w w' c_no 1005 → K (iI (dc_lcs (fun p q => decide (dc_w D v p = dc_w D' u q)) (dc_len D v) (dc_len D' u))) w') : pw_Cl E m_X5_common d [va_rf (some a), .int (iI (i : Nat)), .int (iI (v : Nat)), .int (iI (j : Nat)), .int (iI (u : Nat))] w (c_i K) := by
  replace hd := pw_d1 hd; obtain ⟨e, rfl, hd⟩ := hd
  obtain ⟨g1, g2, g3, g4, g5, g6, g7⟩ := hD.at hi
  obtain ⟨g1', g2', g3', g4', g5', g6', g7'⟩ := hD.at hj
  obtain ⟨row, hr⟩ := dc_get hv
  obtain ⟨row', hr'⟩ := dc_get hu
  obtain ⟨b1, b2, b3, b4, b5⟩ := g4.row hr
  obtain ⟨b1', b2', b3', b4', b5'⟩ := g4'.row hr'
  have hn : dc_len D v = row.length := by unfold dc_len; rw [b4]
  have hn' : dc_len D' u = row'.length := by unfold dc_len; rw [b4']
  rw [hn, hn'] at H
  generalize hL : dc_lcs (fun p q => decide (dc_w D v p = dc_w D' u q)) = L at H
  have Ls : ∀ p q : Nat, L (p + 1) (q + 1) = if decide (dc_w D v p = dc_w D' u q) = true then L p q + 1 else max (L p (q + 1)) (L (p + 1) q) := by rw [← hL]; exact fun p q => rfl
  have Lr : ∀ p q : Nat, 0 ≤ L p q ∧ L p q ≤ p := by rw [← hL]; exact dc_lcs_r _
  have L0 : ∀ p : Nat, L p 0 = 0 := by rw [← hL]; exact dc_lcs_0 _
  have Lz : ∀ q : Nat, L 0 q = 0 := by rw [← hL]; exact fun q => rfl
  have hA : ∀ g, c_arch E (n_ar w (row'.length + 1) g).1 (n_ar w (row'.length + 1) g).1 a Ds t := fun g => h.mono (n_ar_cx hw _ g).sub1 (n_ar_cx hw _ g).sub1
  refine e_X5_common _ _ _ _ _ (s_X5_common_0 _ _ _ _ _ (qa_of (by omega) h hi (fun b hb => dq_row (by omega) hb hr (fun r hr1 => qa_of (by omega) h hj (fun b' hb' => dq_row (by omega) hb' hr' (fun r' hr1' => dq_len hr1' ?_))))))
  rw [iI_ad1]
  refine ⟨iI_n0 (by omega), by rw [iI_nn (by omega)]; omega, ?_⟩
  rw [iI_nn (by omega), n_ar_0]
  have key : ∀ (f p : Nat), p + f = row.length → ∀ g : Nat → Int, (∀ q, q ≤ row'.length → g q = L p q) → pw_Wp E m_X5_common (e + 1) 47 [some (va_rf (some a)), some (.int (iI (i : Nat))), some (.int (iI (v : Nat))), some (.int (iI (j : Nat))), some (.int (iI (u : Nat))), some (va_rf (some r)), some (va_rf (some r')), some (va_rf (some w.2.1)), some (.int (iI (p : Nat))), none, none, none] [] (n_ar w (row'.length + 1) g) (c_i K) := by
    intro f
    induction f with
    | zero =>
      intro p hp g hg
      refine s_X5_common_47 _ _ _ _ _ _ _ _ _ (dq_len ((n_ar_cx hw _ g).at hr1) (ifT (by rw [iI_len (by omega) (by omega)]; omega) (dq_len ((n_ar_cx hw _ g).at hr1') (n_ar_ld (by omega) (by omega) ⟨_, rfl, ?_⟩))))
      rw [hg _ (Nat.le_refl _), show p = row.length by omega]
      exact H _ ((n_ar_cx hw _ g).le (by omega))
    | succ f ih =>
      intro p hp g hg
      refine s_X5_common_47 _ _ _ _ _ _ _ _ _ (dq_len ((n_ar_cx hw _ g).at hr1) (ifF (by rw [iI_len (by omega) (by omega)]; omega) ?_))
      have inn : ∀ (y q : Nat), q + y = row'.length → ∀ g : Nat → Int, (∀ k, k ≤ q → g k = L (p + 1) k) → (∀ k, q < k → k ≤ row'.length → g k = L p k) → pw_Wp E m_X5_common (e + 1) 61 [some (va_rf (some a)), some (.int (iI (i : Nat))), some (.int (iI (v : Nat))), some (.int (iI (j : Nat))), some (.int (iI (u : Nat))), some (va_rf (some r)), some (va_rf (some r')), some (va_rf (some w.2.1)), some (.int (iI (p : Nat))), some (.int (iI (L p q))), some (.int (iI (q : Nat))), none] [] (n_ar w (row'.length + 1) g) (c_i K) := by
        intro y
        induction y with
        | zero =>
          intro q hq g hg1 hg2
          refine s_X5_common_61 _ _ _ _ _ _ _ _ _ _ _ (dq_len ((n_ar_cx hw _ g).at hr1') (ifT (by rw [iI_len (by omega) (by omega)]; omega) ?_))
          rw [iI_ad1]
          exact ih (p + 1) (by omega) g (fun k hk => hg1 k (by omega))
        | succ y ih2 =>
          intro q hq g hg1 hg2
          refine s_X5_common_61 _ _ _ _ _ _ _ _ _ _ _ (dq_len ((n_ar_cx hw _ g).at hr1') (ifF (by rw [iI_len (by omega) (by omega)]; omega) ?_))
          rw [iI_ad1]
          refine n_ar_ld (by omega) (by omega) (qa_of (by omega) (hA g) hi (fun b hb => dq_word (by omega) hb g4 hr (by omega) (fun c hc => qa_of (by omega) (hA g) hj (fun b' hb' => dq_word (by omega) hb' g4' hr' (by omega) (fun c' hc' => dq_equals (by omega) (n_ar_cx hw _ g).ok hc hc' ?_)))))
          rw [hg2 (q + 1) (by omega) (by omega)]
          have r1 := Lr p (q + 1)
          have r2 := Lr (p + 1) q
          have nx : ∀ z : Int, z = L (p + 1) (q + 1) → pw_Wp E m_X5_common (e + 1) 61 [some (va_rf (some a)), some (.int (iI (i : Nat))), some (.int (iI (v : Nat))), some (.int (iI (j : Nat))), some (.int (iI (u : Nat))), some (va_rf (some r)), some (va_rf (some r')), some (va_rf (some w.2.1)), some (.int (iI (p : Nat))), some (.int (iI (L p (q + 1)))), some (.int (iI ((q + 1 : Nat) : Int))), none] [] (n_ar w (row'.length + 1) (fun k => if k = q + 1 then z else g k)) (c_i K) := by
            intro z hz
            refine ih2 (q + 1) (by omega) _ (fun k hk => ?_) (fun k hk1 hk2 => ?_)
            · by_cases o : k = q + 1
              · rw [if_pos o, o]; exact hz
              · rw [if_neg o]; exact hg1 k (by omega)
            · rw [if_neg (by omega)]
              exact hg2 k (by omega) hk2
          have ez := Ls p q
          by_cases o : dc_w D v p = dc_w D' u q
          · rw [decide_eq_true o] at ez ⊢
            rw [if_pos rfl] at ez
            refine ifF (by decide) ?_
            rw [iI_a1]
            exact n_ar_st hw (by omega) (by omega) (nx _ ez.symm)
          · rw [decide_eq_false o] at ez ⊢
            rw [if_neg (by decide)] at ez
            refine ifT (by decide) (n_ar_ld (by omega) (by omega) ?_)
            rw [hg1 q (Nat.le_refl _)]
            have em : (if iI (L p (q + 1)) < iI (L (p + 1) q) then iI (L (p + 1) q) else iI (L p (q + 1))) = iI (max (L p (q + 1)) (L (p + 1) q)) := by
              have m3 : (iI (L p (q + 1)) < iI (L (p + 1) q)) = (L p (q + 1) < L (p + 1) q) := iI_lt (rI_small (by omega) (by omega)) (rI_small (by omega) (by omega))
              by_cases z : L p (q + 1) < L (p + 1) q
              · rw [if_pos (by rw [m3]; exact z), Int.max_eq_right (by omega)]
              · rw [if_neg (by rw [m3]; exact z), Int.max_eq_left (by omega)]
            rw [em]
            exact n_ar_st hw (by omega) (by omega) (nx _ ez.symm)
      have := inn row'.length 0 (by omega) g (fun k hk => by rw [show k = 0 by omega, hg 0 (by omega), L0, L0]) (fun k hk1 hk2 => hg k hk2)
      rw [L0] at this
      exact this
  exact key row.length 0 (by omega) _ (fun q _ => (Lz q).symm)
end
