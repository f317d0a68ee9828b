set_option maxRecDepth 100000
/-! the component: archive, answered as the twin does -/
/-- an archive of the state tells what the twin's told array A does -/
def s_rl (A : Nat → Int) (e : sA) : Prop := ∃ g : Nat → Nat → Nat, rl_ok A e.2.1 g ∧ rl_dt A e.2.1 ∧ da_dt e.2.1 e.2.2
section
variable {E : pw_E} {d : Nat} {w : pw_W} {z : pw_H} {f s ka : Nat} {x : sX} {V : sS} {A : Nat → Int}
theorem iI_div10 {q : Int} (h : 0 ≤ q ∧ q < 2147483648) : iI q / 10 = iI (q / 10) ∧ iI q - iI (q / 10) * 10 = iI (q % 10) := by
  have h1 := q_div' h
  have e1 : iI q / 10 = iI (q / 10) := by rw [← h1]; exact (iI_of _).symm
  refine ⟨e1, ?_⟩
  show iI q - iI (q / 10) * iI 10 = _
  rw [iI_mul, iI_sub]
  congr 1
  omega
theorem fx_archive_ok {i q : Int} {K : Int32 → pw_W → Prop} (hd : 100 ≤ d) (hw : wf E w) (h : s_fc E z w.1 f s ka x V) (hi : rI i) (hq : rI q) (hR : s_isA V i = true → s_rl A (s_A V i)) (H : (fun y => ∀ w', cx E w w' c_no 28010 → K (iI y) w') (if s_isA V i = true then a_archive A q else -2)) : pw_Cl E m_X0_archive d [va_rf (some f), .int (iI i), .int (iI q)] w (c_i K) := by
  replace hd := pw_d1 hd; obtain ⟨e, rfl, hd⟩ := hd
  have r0 : cx E w w c_no 28010 := cx.refl hw
  refine e_X0_archive _ _ _ (s_X0_archive_0 _ _ _ (q_isA (by omega) h hi ?_))
  cases c : s_isA V i with
  | false =>
    rw [if_neg (by rw [c]; decide)] at H
    exact ifT (by rw [bI_0]) ⟨_, rfl, H w r0⟩
  | true =>
    rw [if_pos c] at H
    obtain ⟨g, hr, hdt, hd9⟩ := hR c
    obtain ⟨-, ha, hok, hw4, -⟩ := h.A c
    obtain ⟨us, hus⟩ := ha.obj
    refine ifF (by rw [bI_0]; decide) ?_
    have eq := fun k (hk : rI k) => iI_eq (a := q) (b := k) hq hk
    have e0 := eq 0 (rI_small (by omega) (by omega)); have e1 := eq 1 (rI_small (by omega) (by omega)); have e2 := eq 2 (rI_small (by omega) (by omega)); have e3 := eq 3 (rI_small (by omega) (by omega)); have e4 := eq 4 (rI_small (by omega) (by omega)); have e5 := eq 5 (rI_small (by omega) (by omega)); have e6 := eq 6 (rI_small (by omega) (by omega)); have e7 := eq 7 (rI_small (by omega) (by omega))
    have l0 : ((0 : Int32) ≤ iI q) = (0 ≤ q) := iI_le (a := 0) (rI_small (by omega) (by omega)) hq
    unfold a_archive at H
    by_cases n0 : 0 ≤ q
    · refine ifT (by rw [l0]; exact n0) (q_archiveOf (by omega) h c ?_)
      by_cases z0 : q = 0
      · rw [if_pos (by omega), if_pos z0, hr.A0.1] at H
        exact ifT (by rw [show (0 : Int32) = iI 0 from rfl, e0]; exact z0) ⟨_, us, rfl, hus, ca_many_ok (by omega) ha ⟨_, rfl, H w r0⟩⟩
      refine ifF (by rw [show (0 : Int32) = iI 0 from rfl, e0]; exact z0) ?_
      by_cases z1 : q = 1
      · rw [if_pos (by omega), if_neg z0, if_pos z1, hr.all] at H
        exact ifT (by rw [show (1 : Int32) = iI 1 from rfl, e1]; exact z1) ⟨_, us, rfl, hus, ca_versions_ok (by omega) hw ha hok (fun w' c' => ⟨_, rfl, H w' (c'.le (by omega))⟩)⟩
      refine ifF (by rw [show (1 : Int32) = iI 1 from rfl, e1]; exact z1) ?_
      by_cases z2 : q = 2
      · rw [if_pos (by omega), if_neg z0, if_neg z1, if_pos z2, hr.sizes] at H
        exact ifT (by rw [show (2 : Int32) = iI 2 from rfl, e2]; exact z2) ⟨_, us, rfl, hus, ca_size_ok (by omega) hw ha hok (fun w' c' => ⟨_, rfl, H w' (c'.le (by omega))⟩)⟩
      refine ifF (by rw [show (2 : Int32) = iI 2 from rfl, e2]; exact z2) ?_
      by_cases z3 : q = 3
      · rw [if_pos (by omega), if_neg z0, if_neg z1, if_neg z2, if_pos z3, hr.toks] at H
        exact ifT (by rw [show (3 : Int32) = iI 3 from rfl, e3]; exact z3) ⟨_, us, rfl, hus, ca_tokens_ok (by omega) hw ha hok (fun w' c' => ⟨_, rfl, H w' (c'.le (by omega))⟩)⟩
      refine ifF (by rw [show (3 : Int32) = iI 3 from rfl, e3]; exact z3) ?_
      by_cases z4 : q = 4
      · rw [if_pos (by omega), if_neg z0, if_neg z1, if_neg z2, if_neg z3, if_pos z4, hr.post] at H
        exact ifT (by rw [show (4 : Int32) = iI 4 from rfl, e4]; exact z4) ⟨_, us, rfl, hus, ca_postings_ok (by omega) hw ha hok (fun w' c' => ⟨_, rfl, H w' (c'.le (by omega))⟩)⟩
      refine ifF (by rw [show (4 : Int32) = iI 4 from rfl, e4]; exact z4) ?_
      by_cases z5 : q = 5
      · rw [if_pos (by omega), if_neg z0, if_neg z1, if_neg z2, if_neg z3, if_neg z4, if_pos z5, hr.longest] at H
        exact ifT (by rw [show (5 : Int32) = iI 5 from rfl, e5]; exact z5) ⟨_, us, rfl, hus, ca_longest_ok (by omega) ha hok ⟨_, rfl, H w r0⟩⟩
      refine ifF (by rw [show (5 : Int32) = iI 5 from rfl, e5]; exact z5) ?_
      by_cases z6 : q = 6
      · rw [if_pos (by omega), if_neg z0, if_neg z1, if_neg z2, if_neg z3, if_neg z4, if_neg z5, if_pos z6, hr.twins] at H
        exact ifT (by rw [show (6 : Int32) = iI 6 from rfl, e6]; exact z6) ⟨_, us, rfl, hus, ca_twins_ok (by omega) hw ha hok (fun w' c' => ⟨_, rfl, H w' (c'.le (by omega))⟩)⟩
      refine ifF (by rw [show (6 : Int32) = iI 6 from rfl, e6]; exact z6) ?_
      by_cases z7 : q = 7
      · rw [if_pos (by omega), if_neg z0, if_neg z1, if_neg z2, if_neg z3, if_neg z4, if_neg z5, if_neg z6, if_pos z7] at H
        refine ifT (by rw [show (7 : Int32) = iI 7 from rfl, e7]; exact z7) ⟨_, us, rfl, hus, ca_index_ok (by omega) hw ha hok hw4 (fun u m mc xs c1 hom _ _ => ?_)⟩
        obtain ⟨us2, hus2⟩ := hom.obj
        obtain ⟨htm, -, -, hk⟩ := hom
        have e9 : ((xs.length : Nat) : Int) = ((a_words A (A 5).toNat).length : Nat) := by
          have hm := htm.2.2.1
          have := congrArg List.length (hr.words (KS := xs.map (fun e => e.2.2.1)) (List.pairwise_map.mpr (List.pairwise_iff_getElem.mpr (fun i j hi hj hij => hm i j _ _ hij (List.getElem?_eq_getElem hi) (List.getElem?_eq_getElem hj)))) (fun κ => by rw [List.mem_map]; exact hk κ))
          rw [List.length_map, List.length_map] at this
          omega
        refine ⟨m, us2, rfl, hus2, tm_size_ok (by omega) htm ?_⟩
        rw [e9]
        exact ⟨_, rfl, H u (c1.le (by omega))⟩
      refine ifF (by rw [show (7 : Int32) = iI 7 from rfl, e7]; exact z7) ?_
      obtain ⟨v1, v2⟩ := iI_div10 ⟨n0, hq.2⟩
      rw [v1, v2]
      refine ⟨_, us, rfl, hus, ca_is_ok (by omega) ha (by have := hok.1; omega) (rI_small (by omega) (by omega)) ?_⟩
      have hdoc : a_isDoc A (q % 10) = decide (0 ≤ q % 10 ∧ q % 10 ≤ ((s_A V i).2.1.length : Int) - 1) := by unfold a_isDoc; rw [hr.A0.1]
      by_cases m : 0 ≤ q % 10 ∧ q % 10 ≤ ((s_A V i).2.1.length : Int) - 1
      · rw [decide_eq_true m]
        rw [decide_eq_true m] at hdoc
        have l4 := hr.A0.2.2
        rw [if_neg (by omega)] at H
        unfold a_ofDoc at H
        rw [if_pos hdoc] at H
        refine ifF (by rw [bI_0]; decide) ?_
        have em : ((q % 10).toNat : Int) = q % 10 := by omega
        rw [← em] at H ⊢
        have hD := hr.D0 (i := (q % 10).toNat) (by omega)
        generalize (q % 10).toNat = j at hD H ⊢
        obtain ⟨d1, d2, d3, d4, d5, d6, d7⟩ := hok.at hD
        have hqr : rI (q / 10) := by have := hq.2; constructor <;> omega
        have eq2 := fun k (hk : rI k) => iI_eq (a := q / 10) (b := k) hqr hk
        have f1 := eq2 1 (rI_small (by omega) (by omega)); have f2 := eq2 2 (rI_small (by omega) (by omega)); have f3 := eq2 3 (rI_small (by omega) (by omega)); have f4 := eq2 4 (rI_small (by omega) (by omega)); have f5 := eq2 5 (rI_small (by omega) (by omega))
        refine qa_of (by omega) ha hD (fun b hb => ?_)
        obtain ⟨ud, hud⟩ := hb.obj
        by_cases y1 : q / 10 = 1
        · rw [if_pos y1, (hr.dat hD).2.2.2.2.1] at H
          exact ifT (by rw [show (1 : Int32) = iI 1 from rfl, f1]; exact y1) ⟨b, ud, rfl, hud, cd_many_ok (by omega) hb ⟨_, rfl, H w r0⟩⟩
        refine ifF (by rw [show (1 : Int32) = iI 1 from rfl, f1]; exact y1) ?_
        by_cases y2 : q / 10 = 2
        · rw [if_neg y1, if_pos y2, hr.passN hD] at H
          refine ifT (by rw [show (2 : Int32) = iI 2 from rfl, f2]; exact y2) ⟨b, ud, rfl, hud, cd_passages_ok (by omega) hw hb d4 d6 d7 (fun w' c' a' => ⟨w.2.1, 0, _, iI (dc_pas (da_D (s_A V i).2.1 j)).1, rfl, a', rfl, ?_, ?_, ⟨_, rfl, H w' (c'.le (by omega))⟩⟩)⟩
          · rw [y2]; decide
          · rw [y2]; rfl
        refine ifF (by rw [show (2 : Int32) = iI 2 from rfl, f2]; exact y2) ?_
        by_cases y3 : q / 10 = 3
        · rw [if_neg y1, if_neg y2, if_pos y3, hr.passL hD] at H
          refine ifT (by rw [show (3 : Int32) = iI 3 from rfl, f3]; exact y3) ⟨b, ud, rfl, hud, cd_passages_ok (by omega) hw hb d4 d6 d7 (fun w' c' a' => ⟨w.2.1, 0, _, iI (dc_pas (da_D (s_A V i).2.1 j)).2, rfl, a', rfl, ?_, ?_, ⟨_, rfl, H w' (c'.le (by omega))⟩⟩)⟩
          · rw [y3]; decide
          · rw [y3]; rfl
        refine ifF (by rw [show (3 : Int32) = iI 3 from rfl, f3]; exact y3) ?_
        by_cases y4 : q / 10 = 4
        · rw [if_neg y1, if_neg y2, if_neg y3, if_pos y4, hr.kept hD] at H
          exact ifT (by rw [show (4 : Int32) = iI 4 from rfl, f4]; exact y4) ⟨b, ud, rfl, hud, cd_kept_ok (by omega) hw hb d6 (fun w' c' => ⟨_, rfl, H w' (c'.le (by omega))⟩)⟩
        refine ifF (by rw [show (4 : Int32) = iI 4 from rfl, f4]; exact y4) ?_
        by_cases y5 : q / 10 = 5
        · rw [if_neg y1, if_neg y2, if_neg y3, if_neg y4, if_pos y5, hr.rets hD] at H
          exact ifT (by rw [show (5 : Int32) = iI 5 from rfl, f5]; exact y5) ⟨b, ud, rfl, hud, cd_returns_ok (by omega) hw hb d4 ⟨_, rfl, H w r0⟩⟩
        rw [if_neg y1, if_neg y2, if_neg y3, if_neg y4, if_neg y5] at H
        exact ifF (by rw [show (5 : Int32) = iI 5 from rfl, f5]; exact y5) ⟨_, rfl, H w r0⟩
      · rw [decide_eq_false m]
        refine ifT (by rw [bI_0]) ⟨_, rfl, ?_⟩
        rw [decide_eq_false m] at hdoc
        by_cases t : q < 10
        · rw [if_pos t, if_neg z0, if_neg z1, if_neg z2, if_neg z3, if_neg z4, if_neg z5, if_neg z6, if_neg z7] at H
          exact H w r0
        · rw [if_neg t] at H
          unfold a_ofDoc at H
          rw [if_neg (by rw [hdoc]; decide)] at H
          exact H w r0
    · refine ifF (by rw [l0]; exact n0) ⟨_, rfl, ?_⟩
      rw [if_pos (by omega), if_neg (by omega), if_neg (by omega), if_neg (by omega), if_neg (by omega), if_neg (by omega), if_neg (by omega), if_neg (by omega), if_neg (by omega)] at H
      exact H w r0
end
