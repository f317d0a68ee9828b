set_option maxRecDepth 100000
/-! the component: word, answered as the twin does -/
section
variable {E : pw_E} {d : Nat} {w : pw_W} {z : pw_H} {f s ka : Nat} {x : sX} {V : sS} {A : Nat → Int}
theorem c_om.keep25 {m : Nat} {mc : Int32} {ks : Option Nat} {xs : List tE} {Q : Int → qT} {P : Int → Prop} {w' : pw_W} {F : Nat → Prop} {n : Nat} (h : c_om E w.1 m mc ks xs Q P) (c : cx E w w' F n) (hF : ∀ (q : Nat) (o : pw_O), w.1 q = some o → F q → o.1 = 25) : c_om E w'.1 m mc ks xs Q P := by
  obtain ⟨h1, h2, h3, h4⟩ := h
  refine ⟨h1.keep c (fun hm => ?_) (fun e he hq => ?_) (fun a o ha hq => ?_), fun e he => ?_, h3, h4⟩
  · obtain ⟨us, hus⟩ := h1.obj
    have k1 := hF m _ hus hm
    have := h1.kind m _ hus (Or.inl rfl)
    omega
  · obtain ⟨⟨y0, y1, y6, y8, S, ⟨q1, q2, q3⟩, q4⟩, -⟩ := h1
    have : (23 : Nat) = 25 := hF e.1 _ (q3 e he).2 hq
    omega
  · have := hF a o ha hq
    omega
  · obtain ⟨a, a1, a2, a3⟩ := h2 e he
    refine ⟨a, a1, a2, c.keep a3 (fun hq => ?_)⟩
    have : (11 : Nat) = 25 := hF a _ a3 hq
    omega
theorem iI_n0' {x : Int} (h : 0 ≤ x ∧ x < 2147483648) : ¬ iI x < 0 := by
  have e : (iI x < 0) = (x < 0) := iI_lt (b := 0) (by constructor <;> omega) (rI_small (by omega) (by omega))
  rw [e]; omega
theorem fx_word_ok {i k q : Int} {K : Int32 → pw_W → Prop} (hd : 100 ≤ d) (hw : wf E w) (h : s_fc E z w.1 f s ka x V) (hi : rI i) (hk : rI k) (hq : rI q) (hR : s_isA V i = true → s_rl A (s_A V i)) (H : (fun y => ∀ w', cx E w w' c_no 28100 → K (iI y) w') (if s_isA V i = true then (if decide (0 ≤ k ∧ k ≤ ((a_words A (A 5).toNat).length : Nat) - 1) = true then a_ofWord A ((a_words A (A 5).toNat).getD k.toNat 0) q else -1) else -1)) : pw_Cl E m_X0_word d [va_rf (some f), .int (iI i), .int (iI k), .int (iI q)] w (c_i K) := by
  replace hd := pw_d1 hd; obtain ⟨e, rfl, hd⟩ := hd
  have r0 : cx E w w c_no 28100 := cx.refl hw
  refine e_X0_word _ _ _ _ (s_X0_word_0 _ _ _ _ (q_isA (by omega) h hi ?_))
  cases c : s_isA V i with
  | false =>
    rw [if_neg (by rw [c]; decide)] at H
    exact ifT (by rw [bI_0]) ⟨_, rfl, H w r0⟩
  | true =>
    rw [if_pos c] at H
    obtain ⟨g, hr, hdt, hd9⟩ := hR c
    obtain ⟨-, ha, hok, hw4, -⟩ := h.A c
    obtain ⟨us, hus⟩ := ha.obj
    refine ifF (by rw [bI_0]; decide) ?_
    have ek : (iI k < 0) = (k < 0) := iI_lt (b := 0) hk (rI_small (by omega) (by omega))
    by_cases k0 : k < 0
    · rw [decide_eq_false (by omega), if_neg (by decide)] at H
      exact ifT (by rw [ek]; exact k0) ⟨_, rfl, H w r0⟩
    refine ifF (by rw [ek]; exact k0) (c_isIn0_ok (b := 4) (by omega) hq (rI_small (by omega) (by omega)) ?_)
    by_cases m : 0 ≤ q ∧ q ≤ 4
    · rw [decide_eq_true m]
      refine ifF (by rw [bI_0]; decide) (q_archiveOf (by omega) h c ⟨_, us, rfl, hus, ca_index_ok (by omega) hw ha hok hw4 (fun w1 m0 mc xs c1 hom ho hl8 => ?_)⟩)
      have hom0 := hom
      obtain ⟨htm, hen, -, hkeys⟩ := hom
      obtain ⟨us', hus'⟩ := htm.obj
      have hsort : (xs.map (fun e => e.2.2.1)).Pairwise (· < ·) := List.pairwise_map.mpr (List.pairwise_iff_getElem.mpr (fun i j hi hj hij => htm.2.2.1 i j _ _ hij (List.getElem?_eq_getElem hi) (List.getElem?_eq_getElem hj)))
      have hmem : ∀ κ, κ ∈ xs.map (fun e => e.2.2.1) ↔ 0 < (ix_R (s_A V i).2.1 κ).1 := fun κ => by rw [List.mem_map]; exact hkeys κ
      have hlen : (a_words A (A 5).toNat).length = xs.length := by
        have := congrArg List.length (hr.words hsort hmem)
        rw [List.length_map, List.length_map] at this
        exact this
      have hm1 : w.2.1 ≤ m0 := ho m0 (Or.inl (Or.inl rfl))
      replace hd := pw_d1 hd; obtain ⟨e, rfl, hd⟩ := hd
      refine ⟨m0, us', rfl, hus', e_J18_keySet _ (s_J18_keySet_0 _ ⟨m0, us', rfl, hus', tm_keySet_ok (by omega) c1.ok htm (fun w2 c2 n2 htm2 hs2 => ⟨_, rfl, ?_⟩)⟩)⟩
      have hom2 : c_om E w2.1 m0 mc (some w1.2.1) xs (ix_R (s_A V i).2.1) (fun κ => 0 < (ix_R (s_A V i).2.1 κ).1) := by
        refine ⟨htm2, fun e he => ?_, hom0.2.2.1, hkeys⟩
        obtain ⟨a, a1, a2, a3⟩ := hen e he
        refine ⟨a, a1, a2, c2.keep a3 (fun hq => ?_)⟩
        have hq : a = m0 := hq
        subst hq
        have := htm.kind a _ a3 (Or.inl rfl)
        have : (11 : Nat) = 22 ∨ (11 : Nat) = 23 := this
        omega
      refine ⟨w1.2.1, _, rfl, hs2, tm_iterator_ok (by omega) c2.ok htm2 hs2 (fun w3 c3 n3 hit3 => ?_)⟩
      have hom3 : c_om E w3.1 m0 mc (some w1.2.1) xs (ix_R (s_A V i).2.1) (fun κ => 0 < (ix_R (s_A V i).2.1 κ).1) := hom2.keep25 c3 (fun _ _ _ f => f.elim)
      have c03 : cx E w w3 c_no 28013 := ((cx.tn hw c1 c2 (fun q e => Or.inr (by have e : q = m0 := e; omega))).tr c3).le (by omega)
      have n13 := c1.le1
      have key : ∀ (f p : Nat) (v : pw_W), p + f = xs.length → p ≤ k.toNat → cx E w3 v (fun q => q = w2.2.1) 0 → c_kit v.1 w2.2.1 p mc m0 xs → pw_Wp E m_X0_word (e + 1 + 1) 49 [none, none, none, some (.int (iI q)), some (va_rf (some m0)), some (.int (iI (k - (p : Nat)))), some (va_rf (some w2.2.1)), none, none, none] [] v (c_i K) := by
        have h25 : ∀ (q : Nat) (o : pw_O), w3.1 q = some o → q = w2.2.1 → o.1 = 25 := by
          rintro q o hq rfl
          obtain ⟨l, hl⟩ := hit3
          rw [hl] at hq; cases hq; rfl
        intro f
        induction f with
        | zero =>
          intro p v hp hpk cv hit
          refine s_X0_word_49 _ _ _ _ (tm_step (by omega) cv.ok hit (by have := hw.b; omega) (hom3.keep25 cv h25).1 (fun _ => ⟨_, rfl, ?_⟩) (fun e w' he => by have := (List.getElem?_eq_some_iff.mp he).1; omega))
          rw [decide_eq_false (by omega), if_neg (by decide)] at H
          exact H v ((cx.tn hw c03 cv (fun q e => Or.inr (by have e : q = w2.2.1 := e; have := c2.le1; omega))).le (by omega))
        | succ f ih =>
          intro p v hp hpk cv hit
          have hvo := hom3.keep25 cv h25
          refine s_X0_word_49 _ _ _ _ (tm_step (by omega) cv.ok hit (by have := hw.b; omega) hvo.1 (fun hx => ?_) (fun y v1 hy cv1 nv1 hit1 => ?_))
          · rw [List.getElem?_eq_none_iff] at hx
            omega
          have cv2 : cx E w3 v1 (fun q => q = w2.2.1) 0 := (cv.tr (cv1.mono (fun q _ _ e => e) (Nat.le_refl _))).le (by omega)
          have hvo1 := hom3.keep25 cv2 h25
          have c04 : cx E w v1 c_no 28013 := (cx.tn hw c03 cv2 (fun q e => Or.inr (by have e : q = w2.2.1 := e; have := c2.le1; omega))).le (by omega)
          have hky := hvo1.1.2.1 y (List.mem_of_getElem? hy)
          obtain ⟨sy, sy1, sy2, sy3, sy4⟩ := hky
          have hstr := sy1
          obtain ⟨sb, sv2, sv3, st1, st2⟩ := sy1
          have ek2 : (iI (k - (p : Nat)) ≤ 0) = (k - (p : Nat) ≤ 0) := iI_le (b := 0) (by have := hk.2; constructor <;> omega) (rI_small (by omega) (by omega))
          refine ⟨Or.inr ⟨y.2.1, 21, _, rfl, st1, c_canS⟩, ?_⟩
          by_cases kp : k - (p : Nat) ≤ 0
          · have ekp : k = (p : Nat) := by omega
            refine ifT (by rw [ek2]; exact kp) ?_
            obtain ⟨us1, hus1⟩ := hvo1.1.obj
            refine ⟨m0, us1, rfl, hus1, om_get_ok (by omega) c04.ok hvo1 ⟨sy, hstr, sy2, sy3, sy4⟩ (fun e9 a he9 hκ ha9 hba ha => ?_) (fun h0 => absurd ((hkeys y.2.2.1).mp ⟨y, List.mem_of_getElem? hy, rfl⟩) h0)⟩
            refine ⟨Or.inr ⟨a, 11, _, rfl, ha, c_canEn⟩, (by decide), (by decide), ?_⟩
            show pw_Cl E m_X0_code (e + 1) [va_rf (some y.2.1)] (pw_new v1 (1000, List.replicate 5 (.int 0)) 5) _
            rw [n_ar_0]
            have st : ∀ (n : Nat) (gg : Nat → Int) (zz : Int) (KK : pw_W → Prop), n < 5 → KK (n_ar v1 5 (fun j => if j = n then zz else gg j)) → f_asti E (n_ar v1 5 gg) (some v1.2.1) (iI (n : Nat)) (iI zz) KK := fun n gg zz KK hn hKK => n_ar_st c04.ok hn (by omega) hKK
            have ga : ∀ gg : Nat → Int, (n_ar v1 5 gg).1 a = some (11, [.int (iI (ix_R (s_A V i).2.1 y.2.2.1).1), .int (iI (ix_R (s_A V i).2.1 y.2.2.1).2.1), .int (iI (ix_R (s_A V i).2.1 y.2.2.1).2.2.1), .int (iI (ix_R (s_A V i).2.1 y.2.2.1).2.2.2)]) := fun gg => (n_ar_cx c04.ok 5 gg).at ha
            refine cs_code_ok (by omega) (n_ar_cx c04.ok 5 _).ok (hstr.mono (n_ar_cx c04.ok 5 _).sub1) ?_
            refine st 0 _ (s_code sy) _ (by omega) ?_
            refine ⟨a, _, _, rfl, ga _, rfl, st 1 _ _ _ (by omega) ?_⟩
            refine ⟨a, _, _, rfl, ga _, rfl, st 2 _ _ _ (by omega) ?_⟩
            refine ⟨a, _, _, rfl, ga _, rfl, st 3 _ _ _ (by omega) ?_⟩
            refine ⟨a, _, _, rfl, ga _, rfl, st 4 _ _ _ (by omega) ?_⟩
            have eq9 : q = (q.toNat : Nat) := by omega
            rw [eq9]
            refine n_ar_ld (by omega) (by omega) ⟨_, rfl, ?_⟩
            have hwk := hr.wordAtK hsort hmem (k := p) (κ := y.2.2.1) (by rw [List.getElem?_map, hy]; rfl) (s := sy) st2.2.2 ⟨sy2, sy3⟩ sy4
            rw [decide_eq_true (by omega), if_pos rfl, ekp, Int.toNat_natCast, dc_getD hwk] at H
            obtain ⟨⟨o1, o2, o3⟩, -, -, o4⟩ := hr.ofW hdt st2.2.2 ⟨sy2, sy3⟩
            rw [← sy4] at o1 o2 o3 o4
            have o4 := (o4 ((hkeys _).mp ⟨y, List.mem_of_getElem? hy, rfl⟩)).1
            unfold a_ofWord at H
            rw [o1, o2, o3, o4] at H
            have fin := fun gg : Nat → Int => H _ ((c04.tr (n_ar_cx c04.ok 5 gg)).le (by omega))
            refine cast (congrArg (fun y => K (iI y) _) ?_) (fin _)
            have q5 : q = 0 ∨ q = 1 ∨ q = 2 ∨ q = 3 ∨ q = 4 := by omega
            rcases q5 with rfl | rfl | rfl | rfl | rfl <;> rfl
          · have e9 : iI (k - (p : Nat)) + (-1) = iI (k - ((p + 1 : Nat) : Int)) := by
              rw [show k - ((p + 1 : Nat) : Int) = (k - (p : Nat)) + (-1) by omega]
              rw [show (-1 : Int32) = iI (-1) by decide]
              exact iI_add _ (-1)
            rw [e9]
            refine ifF (by rw [ek2]; exact kp) ?_
            exact ih (p + 1) v1 (by omega) (by omega) cv2 hit1
      have := key xs.length 0 w3 (by omega) (by omega) (cx.refl c03.ok) hit3
      rw [show k - ((0 : Nat) : Int) = k by omega] at this
      exact this
    · rw [decide_eq_false m]
      refine ifT (by rw [bI_0]) ⟨_, rfl, ?_⟩
      by_cases n : 0 ≤ k ∧ k ≤ ((a_words A (A 5).toNat).length : Nat) - 1
      · rw [decide_eq_true n, if_pos rfl] at H
        unfold a_ofWord at H
        rw [if_neg (by omega), if_neg (by omega), if_neg (by omega), if_neg (by omega), if_neg (by omega)] at H
        exact H w r0
      · rw [decide_eq_false n, if_neg (by decide)] at H
        exact H w r0
end
