set_option maxRecDepth 100000
/-! the component: spans, answered as the twin does -/
def c_en (x : Int32) (l : Bool) : Int32 := if l = true then x &&& ((x >>> (1 &&& 31)) ^^^ (-1)) else x &&& ((x <<< (1 &&& 31)) ^^^ (-1))
def c_dr : Nat → Int32 → Int32
  | 0, y => y
  | n + 1, y => c_dr n (y &&& (y - 1))
theorem c_en_10 : ∀ (x : Fin 1024) (l : Bool) (s : Fin 5), ((s : Nat) : Int) < s_rows ((x : Nat) : Int) → 0 < (c_dr (s : Nat) (c_en (iI ((x : Nat) : Int)) l)).toInt ∧ (c_dr (s : Nat) (c_en (iI ((x : Nat) : Int)) l)).toInt < 1024 ∧ s_first (c_dr (s : Nat) (c_en (iI ((x : Nat) : Int)) l)).toInt = q_span ((x : Nat) : Int) ((s : Nat) : Int) l 10 0 (-1) := by decide +kernel
def q_sps (x : Int) (l : Bool) : Nat → Nat → Int → List Int
  | 0, _, _ => []
  | f + 1, v, n => (if (s_has x v && (if l = true then !s_has x ((v : Int) + 1) else (decide ((v : Int) = 0) || !s_has x ((v : Int) - 1)))) = true then [n + (if (s_has x v && (decide ((v : Int) = 0) || !s_has x ((v : Int) - 1))) = true then 1 else 0)] else []) ++ q_sps x l f (v + 1) (n + (if (s_has x v && (decide ((v : Int) = 0) || !s_has x ((v : Int) - 1))) = true then 1 else 0))
theorem q_sps_no {x s : Int} {l : Bool} : ∀ (f v : Nat) (n : Int), s ∉ q_sps x l f v n → q_span x s l f v n = -1 := by
  intro f
  induction f with
  | zero => intro v n _; rfl
  | succ f ih =>
    intro v n h
    unfold q_sps at h
    rw [List.mem_append] at h
    unfold q_span
    generalize (if (s_has x v && (decide ((v : Int) = 0) || !s_has x ((v : Int) - 1))) = true then (1 : Int) else 0) = c at h ⊢
    have h2 := ih (v + 1) (n + c) (fun m => h (Or.inr m))
    by_cases z : (s_has x v && (if l = true then !s_has x ((v : Int) + 1) else (decide ((v : Int) = 0) || !s_has x ((v : Int) - 1)))) = true
    · rw [if_pos z] at h
      have ne : n + c ≠ s := fun e => h (Or.inl (by rw [e]; exact List.mem_singleton.mpr rfl))
      rw [decide_eq_false ne, Bool.and_false, Bool.and_false, if_neg (by decide)]
      exact h2
    · rw [← Bool.and_assoc]
      have z := Bool.eq_false_iff.mpr z
      rw [z, Bool.false_and, if_neg (by decide)]
      exact h2
theorem q_sps_10 : ∀ (x : Fin 1024) (l : Bool), (q_sps ((x : Nat) : Int) l 10 0 (-1)).all (fun e => decide (0 ≤ e ∧ e < s_rows ((x : Nat) : Int))) = true := by decide +kernel
theorem s_rows_5 : ∀ x : Fin 1024, 0 ≤ s_rows ((x : Nat) : Int) ∧ s_rows ((x : Nat) : Int) ≤ 5 := by decide +kernel
section
variable {E : pw_E} {d : Nat} {w : pw_W} {z : pw_H} {f s ka : Nat} {x : sX} {V : sS} {A B : Nat → Int}
theorem fx_spans_ok {i u k a q : Int} {l : Bool} {K : Int32 → pw_W → Prop} (hd : 200 ≤ d) (hw : wf E w) (h : s_fc E z w.1 f s ka x V) (hi : rI i) (hu : rI u) (hk : rI k) (ha : rI a) (hq : rI q) (hR : s_isA V i = true → s_rl A (s_A V i)) (hQ : s_isQ V u = true → qr B u (s_Q V u).2) (H : (fun y => ∀ w', cx E w w' c_no 28100 → K (iI y) w') (if (s_isQ V u && s_isA V i) = true then q_spansP A B u k a q l else -1)) : pw_Cl E m_X0_spans d [va_rf (some f), .int (iI i), .int (iI u), .int (iI k), .int (iI a), .int (iI q), .int (bI l)] w (c_i K) := by
  replace hd := pw_d1 hd; obtain ⟨e, rfl, hd⟩ := hd
  have r0 : cx E w w c_no 28100 := cx.refl hw
  unfold q_spansP at H
  rw [s_asked_if hQ] at H
  refine e_X0_spans _ _ _ _ _ _ _ (s_X0_spans_0 _ _ _ _ _ _ _ (q_isAsked (by omega) h hi hu hk ?_))
  cases c : s_asked V i u k with
  | false =>
    rw [if_neg (by rw [c]; decide)] at H
    exact ifT (by rw [bI_0]) ⟨_, rfl, H w r0⟩
  | true =>
    rw [if_pos c] at H
    obtain ⟨c1, c2, n, qq, rfl, hqq, hn⟩ := s_asked_at c
    obtain ⟨g, hr, hdt, hd9⟩ := hR c1
    obtain ⟨-, hA, hok, -, -⟩ := h.A c1
    obtain ⟨us0, hus0⟩ := hA.obj
    have hdoc : a_isDoc A a = decide (0 ≤ a ∧ a ≤ ((s_A V i).2.1.length : Int) - 1) := by unfold a_isDoc; rw [hr.A0.1]
    rw [hdoc] at H
    refine ifF (by rw [bI_0]; decide) (q_archiveOf (by omega) h c1 ⟨_, us0, rfl, hus0, ca_is_ok (by omega) hA (by have := hok.1; omega) ha ?_⟩)
    by_cases m : 0 ≤ a ∧ a ≤ ((s_A V i).2.1.length : Int) - 1
    · rw [decide_eq_true m] at H ⊢
      rw [if_pos rfl] at H
      refine ifF (by decide) (q_askings (by omega) hw h c1 c2 (fun w' p th L c9 hkQ hkI hlen hphi hdk hnone => ?_))
      obtain ⟨e9, he9⟩ := dc_get (l := L) (i := n) (by omega)
      have hph := hphi n e9 he9
      obtain ⟨us, hus⟩ := hkQ.ob hkI
      have ea : a = (a.toNat : Nat) := by omega
      rw [ea] at H ⊢
      generalize a.toNat = j at ea H ⊢
      have hj := hr.D0 (i := j) (by omega)
      obtain ⟨g1, g2, g3, g4, g5, g6, g7⟩ := hok.at hj
      refine ⟨th, us, rfl, hus, ck_set_ok (by omega) hkQ hkI he9 hj (fun w2 hI2 cu2 _ => ?_)⟩
      rw [hph]
      rw [hr.T (hQ c2) hn hj] at H
      have hX := dk_set_r (qph (s_A V i).2.1 (s_Q V u).2 n j) (da_D (s_A V i).2.1 j).1.length g6
      have H := H w2 ((c9.none cu2 hnone).le (show 480 + 0 ≤ 28100 by omega))
      generalize dk_set (qph (s_A V i).2.1 (s_Q V u).2 n j) (da_D (s_A V i).2.1 j).1.length = X at hX H
      have em : (iI q = -1) = (q = -1) := by rw [show (-1 : Int32) = iI (-1) by decide]; exact iI_eq hq (rI_small (by omega) (by omega))
      by_cases q1 : q = -1
      · rw [if_pos q1] at H
        exact ifT (by rw [em]; exact q1) (c_rows_ok (by omega) hX ⟨_, rfl, H⟩)
      rw [if_neg q1] at H
      refine ifF (by rw [em]; exact q1) (c_rows_ok (by omega) hX ?_)
      have eX : ((X.toNat : Nat) : Int) = X := by omega
      have h5 := s_rows_5 ⟨X.toNat, by omega⟩
      have h5 : 0 ≤ s_rows ((X.toNat : Nat) : Int) ∧ s_rows ((X.toNat : Nat) : Int) ≤ 5 := h5
      rw [eX] at h5
      have er : iI (s_rows X) - 1 = iI (s_rows X - 1) := iI_sub _ 1
      rw [er]
      refine c_isIn0_ok (by omega) hq (rI_small (by omega) (by omega)) ?_
      by_cases m2 : 0 ≤ q ∧ q ≤ s_rows X - 1
      · rw [decide_eq_true m2]
        refine ifF (by decide) ?_
        have h10 := c_en_10 ⟨X.toNat, by omega⟩ l ⟨q.toNat, by omega⟩
        have h10 : ((q.toNat : Nat) : Int) < s_rows ((X.toNat : Nat) : Int) → 0 < (c_dr q.toNat (c_en (iI ((X.toNat : Nat) : Int)) l)).toInt ∧ (c_dr q.toNat (c_en (iI ((X.toNat : Nat) : Int)) l)).toInt < 1024 ∧ s_first (c_dr q.toNat (c_en (iI ((X.toNat : Nat) : Int)) l)).toInt = q_span ((X.toNat : Nat) : Int) ((q.toNat : Nat) : Int) l 10 0 (-1) := h10
        rw [eX] at h10
        obtain ⟨y1, y2, y3⟩ := h10 (by omega)
        have eq9 : ((q.toNat : Nat) : Int) = q := by omega
        rw [eq9] at y3
        rw [← y3] at H
        have key : ∀ (f k : Nat) (y : Int32), k + f = q.toNat → c_dr f y = c_dr q.toNat (c_en (iI X) l) → pw_Wp E m_X0_spans (e + 1) 100 [none, none, none, none, none, some (.int (iI q)), none, none, some (.int y), some (.int (iI (k : Nat)))] [] w2 (c_i K) := by
          intro f
          induction f with
          | zero =>
            intro k y hk hy
            have ll : (iI q ≤ iI (k : Nat)) = (q ≤ (k : Nat)) := iI_le hq (rI_small (by omega) (by omega))
            refine s_X0_spans_100 _ _ _ (ifT (by rw [ll]; omega) ?_)
            have hy : y = c_dr q.toNat (c_en (iI X) l) := hy
            rw [← hy] at y1 y2 H
            have ey : y = iI y.toInt := (iI_of _).symm
            rw [ey]
            exact cz_tz_ok (by omega) ⟨y1, y2⟩ ⟨_, rfl, H⟩
          | succ f ih =>
            intro k y hk hy
            have ll : (iI q ≤ iI (k : Nat)) = (q ≤ (k : Nat)) := iI_le hq (rI_small (by omega) (by omega))
            refine s_X0_spans_100 _ _ _ (ifF (by rw [ll]; omega) ?_)
            have ek : iI (k : Nat) + 1 = iI ((k + 1 : Nat) : Int) := by rw [iI_a1]; rfl
            rw [ek]
            exact ih (k + 1) _ (by omega) hy
        have k0 := key q.toNat 0 (c_en (iI X) l) (by omega) rfl
        cases l with
        | false => exact ifT (by decide) k0
        | true => exact ifF (by decide) k0
      · rw [decide_eq_false m2]
        refine ifT (by decide) ⟨_, rfl, ?_⟩
        have h9 := q_sps_10 ⟨X.toNat, by omega⟩ l
        have h9 : (q_sps ((X.toNat : Nat) : Int) l 10 0 (-1)).all (fun e => decide (0 ≤ e ∧ e < s_rows ((X.toNat : Nat) : Int))) = true := h9
        rw [eX] at h9
        rw [q_sps_no 10 0 (-1) (fun hm => by have := of_decide_eq_true (List.all_eq_true.mp h9 q hm); omega)] at H
        exact H
    · rw [decide_eq_false m] at H ⊢
      rw [if_neg (by decide)] at H
      exact ifT (by decide) ⟨_, rfl, H w r0⟩
end
