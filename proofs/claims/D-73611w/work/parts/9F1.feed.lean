set_option maxRecDepth 100000
/-! the component: feed, end -/
def fdw (a b c g f : Int) (n : Nat) : Int := if n < 4 then a else if n < 8 then b else if n < 12 then c else if n < 16 then g else f
def fdb (a b c g f : Int) (n : Nat) : Int := fd_byte (fdw a b c g f n) (24 - 8 * ((n % 4 : Nat) : Int))
theorem fd_puts_20 (S : tw_S) (a b c g f : Int) : fd_puts S (fdb a b c g f) 20 = fd_four (fd_four (fd_four (fd_four (fd_four S a) b) c) g) f := rfl
theorem b8_b8 (y : Int32) : y.toInt8.toInt32.toInt8.toInt32 = y.toInt8.toInt32 := by
  have := iB_iB y.toInt
  unfold iB at this
  rw [iI_of, iI_of] at this
  exact Int32.toInt_inj.mp this
theorem fd_sh : ∀ n : Fin 20, (24 - (8 * (iI ((n : Nat) : Int) &&& 3)) &&& 31) = (iI (24 - 8 * ((((n : Nat) % 4 : Nat) : Int))) &&& 31) := by decide +kernel
theorem fdb_eq (a b c g f : Int) {n : Nat} (hn : n < 20) : ((iI (fdw a b c g f n) >>> (24 - (8 * (iI (n : Nat) &&& 3)) &&& 31)).toInt8.toInt32).toInt = fdb a b c g f n := by
  have h := fd_sh ⟨n, hn⟩
  have h : (24 - (8 * (iI ((n : Nat) : Int) &&& 3)) &&& 31) = (iI (24 - 8 * (((n % 4 : Nat) : Int))) &&& 31) := h
  rw [h]
  unfold fdb fd_byte iB
  rw [iI_of, b8_b8]
section
variable {E : pw_E} {d : Nat} {w : pw_W} {P : Nat → Prop} {z : pw_H} {f s ka : Nat} {x : sX} {V V' : sS} {kp : sK}
theorem fdb_iB (a b c g f' : Int) (n : Nat) : iB (fdb a b c g f' n) = fdb a b c g f' n := iB_iB _
theorem s_ok.puts {B : Nat → Int} (h : s_ok V) : ∀ n : Nat, V.2.1.1 + n ≤ 600 → (∀ n, iB (B n) = B n) → s_ok (s_puts V B n) := by
  intro n
  induction n with
  | zero => intro _ _; exact h
  | succ n ih =>
    intro hn hB
    exact (ih (by omega) hB).put (by rw [(s_puts_size V B n).1]; omega) (hB n)
theorem fx_feed_ok {a b c g q : Int} {K : Int32 → pw_W → Prop} (hd : 20 ≤ d) (hw : wf E w) (h : fI E P z w.1 f s ka x V kp) (H1 : V.2.1.1 + 20 ≤ 600 → ∀ w', cx E w w' (s_F s x) 0 → fI E P z w'.1 f s ka x (s_puts V (fdb a b c g q) 20) kp → K (iI (V.2.1.1 + 20)) w') (H0 : ¬ V.2.1.1 + 20 ≤ 600 → K (iI (-1)) w) : pw_Cl E m_X0_feed d [va_rf (some f), .int (iI a), .int (iI b), .int (iI c), .int (iI g), .int (iI q)] w (c_i K) := by
  replace hd := pw_d1 hd; obtain ⟨e, rfl, hd⟩ := hd
  obtain ⟨h0, hs, hz, hf, ho⟩ := id h.1
  have h20 := ho.2.1
  have e20 : iI V.2.1.1 + 20 = iI (V.2.1.1 + 20) := iI_add _ 20
  refine e_X0_feed _ _ _ _ _ _ (s_X0_feed_0 _ _ _ _ _ _ ⟨f, _, _, rfl, h0, rfl, s, _, _, rfl, hs.1, rfl, ?_⟩)
  have ll : (iI V.2.1.1 + 20 ≤ 600) = (V.2.1.1 + 20 ≤ 600) := by rw [e20]; exact iI_le (b := 600) (rI_small (by omega) (by omega)) (rI_small (by omega) (by omega))
  by_cases m : V.2.1.1 + 20 ≤ 600
  · refine ifT (by rw [ll]; exact m) ?_
    have key : ∀ (j n : Nat) (v : pw_W), n + j = 20 → cx E w v (s_F s x) 0 → fI E P z v.1 f s ka x (s_puts V (fdb a b c g q) n) kp → pw_Wp E m_X0_feed (e + 1) 21 [some (va_rf (some f)), some (.int (iI a)), some (.int (iI b)), some (.int (iI c)), some (.int (iI g)), some (.int (iI q)), some (.int (iI (n : Nat))), none] [] v (c_i K) := by
      intro j
      induction j with
      | zero =>
        intro n v hn cv hI
        have hn : n = 20 := by omega
        subst hn
        obtain ⟨g0, gs, -⟩ := id hI.1
        refine s_X0_feed_21 _ _ _ _ _ _ _ (ifT (by decide) ⟨f, _, _, rfl, g0, rfl, s, _, _, rfl, gs.1, rfl, _, rfl, ?_⟩)
        rw [(s_puts_size V _ 20).1]
        exact H1 m v cv hI
      | succ j ih =>
        intro n v hn cv hI
        have l4 : ∀ k : Nat, k ≤ 20 → (iI (k : Nat) ≤ iI (n : Nat)) = ((k : Int) ≤ (n : Nat)) := fun k hk => iI_le (rI_small (by omega) (by omega)) (rI_small (by omega) (by omega))
        have l20 := l4 20 (by omega); have l04 := l4 4 (by omega); have l08 := l4 8 (by omega); have l12 := l4 12 (by omega); have l16 := l4 16 (by omega)
        obtain ⟨g0, gs, gz, gf, go⟩ := id hI.1
        have hsz := (s_puts_size V (fdb a b c g q) n).1
        have st : pw_Wp E m_X0_feed (e + 1) 74 [some (va_rf (some f)), some (.int (iI a)), some (.int (iI b)), some (.int (iI c)), some (.int (iI g)), some (.int (iI q)), some (.int (iI (n : Nat))), none] [.int (iI (fdw a b c g q n))] v (c_i K) := by
          refine s_X0_feed_74 _ _ _ _ _ _ _ _ ⟨f, _, _, rfl, g0, rfl, s, _, _, rfl, gs.1, rfl, f, _, _, rfl, g0, rfl, s, _, _, rfl, gs.1, rfl, ?_⟩
          have sp := st_put_ok (K := fun w33 => pw_Wp E m_X0_feed (e + 1) 21 [some (va_rf (some f)), some (.int (iI a)), some (.int (iI b)), some (.int (iI c)), some (.int (iI g)), some (.int (iI q)), some (.int (iI (n : Nat) + 1)), none] [] w33 (c_i K)) (b := (iI (fdw a b c g q n) >>> (24 - (8 * (iI (n : Nat) &&& 3)) &&& 31)).toInt8.toInt32) cv.ok gs go (by rw [hsz]; omega) (b8_b8 _) (fun v' cv' nv' hst => ?_)
          · obtain ⟨x1, vs, u1, u2, u3, u4, u5, us, u6, u7, u8⟩ := sp
            refine ⟨x1, vs, u1, u2, u3, u4, u5, ?_⟩
            have nfx : f ≠ x1 := by
              have u1 : some x.1 = some x1 := u1
              cases u1
              rintro rfl
              rw [u2] at g0
              cases g0
            exact ⟨f, _, _, rfl, (by rw [pw_up_ne nfx]; exact g0), rfl, s, _, _, rfl, u6, u7, u8⟩
          · have ek : iI (n : Nat) + 1 = iI ((n + 1 : Nat) : Int) := by rw [iI_a1]; rfl
            rw [ek]
            rw [fdb_eq a b c g q (by omega)] at hst
            exact ih (n + 1) v' (by omega) ((cv.tr cv').le (by omega)) (hI.upd cv.ok cv' hst (go.put (by rw [hsz]; omega) (fdb_iB _ _ _ _ _ _)) gf)
        refine s_X0_feed_21 _ _ _ _ _ _ _ (ifF (by rw [show (20 : Int32) = iI ((20 : Nat) : Int) from rfl, l20]; omega) ?_)
        unfold fdw at st
        by_cases m4 : n < 4
        · rw [if_pos m4] at st
          exact ifF (by rw [show (4 : Int32) = iI ((4 : Nat) : Int) from rfl, l04]; omega) st
        rw [if_neg m4] at st
        refine ifT (by rw [show (4 : Int32) = iI ((4 : Nat) : Int) from rfl, l04]; omega) ?_
        by_cases m8 : n < 8
        · rw [if_pos m8] at st
          exact ifF (by rw [show (8 : Int32) = iI ((8 : Nat) : Int) from rfl, l08]; omega) st
        rw [if_neg m8] at st
        refine ifT (by rw [show (8 : Int32) = iI ((8 : Nat) : Int) from rfl, l08]; omega) ?_
        by_cases m12 : n < 12
        · rw [if_pos m12] at st
          exact ifF (by rw [show (12 : Int32) = iI ((12 : Nat) : Int) from rfl, l12]; omega) st
        rw [if_neg m12] at st
        refine ifT (by rw [show (12 : Int32) = iI ((12 : Nat) : Int) from rfl, l12]; omega) ?_
        by_cases m16 : n < 16
        · rw [if_pos m16] at st
          exact ifF (by rw [show (16 : Int32) = iI ((16 : Nat) : Int) from rfl, l16]; omega) st
        rw [if_neg m16] at st
        exact ifT (by rw [show (16 : Int32) = iI ((16 : Nat) : Int) from rfl, l16]; omega) st
    exact key 20 0 w (by omega) (cx.refl hw) h
  · exact ifF (by rw [ll]; exact m) ⟨_, rfl, H0 m⟩
/-- of a state: its int fields written -/
theorem st_fld_ok {j : Nat} {y : Int} {K : pw_W → Prop} (hw : wf E w) (h : s_st E w.1 s x V) (hj : j = 1 ∨ j = 2 ∨ j = 3) (H : ∀ w', cx E w w' (s_F s x) 0 → w'.2 = w.2 → s_st E w'.1 s x (V.1, (if j = 1 then y else V.2.1.1, if j = 2 then y else V.2.1.2.1, if j = 3 then y else V.2.1.2.2), V.2.2) → K w') : f_put E w (some s) 1 j (.int (iI y)) K := by
  obtain ⟨h1, h2, ⟨h3a, h3b, h3c⟩, ⟨k1, k2, k3⟩, ⟨b1, b2⟩, h5⟩ := id h
  refine ⟨s, _, rfl, h1, b1, ?_⟩
  have fin : ∀ us : List Value, us = [va_rf (some x.1), .int (iI (if j = 1 then y else V.2.1.1)), .int (iI (if j = 2 then y else V.2.1.2.1)), .int (iI (if j = 3 then y else V.2.1.2.2)), va_rf (some x.2.1.1), va_rf (some x.2.2.1.1), va_rf (some x.2.2.2.1)] → K (pw_up w s (1, us)) := by
    rintro us rfl
    have c2 := cx.up (F := s_F s x) hw (1, [va_rf (some x.1), .int (iI (if j = 1 then y else V.2.1.1)), .int (iI (if j = 2 then y else V.2.1.2.1)), .int (iI (if j = 3 then y else V.2.1.2.2)), va_rf (some x.2.1.1), va_rf (some x.2.2.1.1), va_rf (some x.2.2.2.1)]) h1 b1 (Or.inl rfl)
    refine H _ c2 rfl ⟨pw_up_1 _ _ _, ?_, ?_, ⟨k1, k2, k3⟩, ⟨b1, b2⟩, h5⟩
    · rw [pw_up_ne (by rintro e; rw [e, h1] at h2; cases h2)]
      exact h2
    · have kk : ∀ (l : lX) (ys : List Nat), c_lX E w.1 l ys → l.2.2.1 = 2 → ∀ o, c_lX E (pw_up w s o).1 l ys := by
        intro l ys hl hc o
        obtain ⟨g1', g2', g3', g4', g5'⟩ := hl
        rcases g5' with g5' | ⟨g5', g6', vs, g7', g8'⟩
        · omega
        have n1 : l.1 ≠ s := by rintro e; rw [e, h1] at g1'; cases g1'
        have n3 : l.2.1 ≠ s := by rintro e; rw [e, h1] at g7'; cases g7'
        exact ⟨by rw [pw_up_ne n1]; exact g1', g2', g3', g4', Or.inr ⟨g5', g6', vs, by rw [pw_up_ne n3]; exact g7', g8'⟩⟩
      exact ⟨kk _ _ h3a k1 _, kk _ _ h3b k2 _, kk _ _ h3c k3 _⟩
  refine fin _ ?_
  rcases hj with rfl | rfl | rfl <;> rfl
theorem fx_end_ok {n : Int} {K : Int32 → pw_W → Prop} (hd : 20 ≤ d) (hw : wf E w) (h : fI E P z w.1 f s ka x V kp) (hn : rI n) (H1 : 0 ≤ n ∧ n ≤ V.2.1.1 → ∀ w', cx E w w' (s_F s x) 0 → fI E P z w'.1 f s ka x (V.1, (n, V.2.1.2), V.2.2) kp → K (iI n) w') (H0 : ¬ (0 ≤ n ∧ n ≤ V.2.1.1) → K (iI (-1)) w) : pw_Cl E m_X0_end d [va_rf (some f), .int (iI n)] w (c_i K) := by
  replace hd := pw_d1 hd; obtain ⟨e, rfl, hd⟩ := hd
  obtain ⟨h0, hs, hz, hf, ho⟩ := id h.1
  have h20 := ho.2.1
  have l0 : (iI n < 0) = (n < 0) := iI_lt (b := 0) hn (rI_small (by omega) (by omega))
  have l1 : (iI n ≤ iI V.2.1.1) = (n ≤ V.2.1.1) := iI_le hn (rI_small (by omega) (by omega))
  refine e_X0_end _ _ (s_X0_end_0 _ _ ?_)
  by_cases m0 : n < 0
  · exact ifT (by rw [l0]; exact m0) ⟨_, rfl, H0 (by omega)⟩
  refine ifF (by rw [l0]; exact m0) ⟨f, _, _, rfl, h0, rfl, s, _, _, rfl, hs.1, rfl, ?_⟩
  by_cases m1 : n ≤ V.2.1.1
  · refine ifT (by rw [l1]; exact m1) ⟨f, _, _, rfl, h0, rfl, st_fld_ok hw hs (Or.inl rfl) (fun w' c' _ hst => ⟨_, rfl, H1 ⟨by omega, m1⟩ w' c' (h.upd hw c' hst ?_ hf)⟩)⟩
    obtain ⟨o1, o2, o3⟩ := ho
    exact ⟨o1, ⟨by show 0 ≤ n; omega, by show n ≤ 600; omega⟩, o3⟩
  · exact ifF (by rw [l1]; exact m1) ⟨_, rfl, H0 (by omega)⟩
end
