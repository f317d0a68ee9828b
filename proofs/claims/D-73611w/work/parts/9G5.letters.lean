set_option maxRecDepth 100000
/-! the component: a word read -/
section
variable {E : pw_E} {d : Nat} {w : pw_W} {rd xt k a b : Nat} {T : Nat → Int} {L : Int}
theorem rd_let_end {p q : Nat} {s : List Int} {nm : Int} {pc0 wd0 : Option Nat} {rest : Option Nat × Int × Option Nat} {K : pw_W → Prop} (hd : 10 ≤ d) (hk : k = 3 ∨ k = 8 ∨ k = 9) (hL : 0 ≤ L ∧ L ≤ 600) (hb : pw_base E ≤ rd) (hp6 : p ≤ 600) (hw : wf E w) (h : w.1 rd = some (rd_ob k xt L (((p : Nat) : Int), ((q : Nat) : Int), nm, pc0, wd0, rest))) (ht : c_tp w.1 xt T) (hs : c_sb E w.1 a b s) (hl : s.length ≤ 7) (hc : ¬ (97 ≤ c_at T L p ∧ c_at T L p ≤ 122))
    (H : ∀ (w' : pw_W) (wd : Nat) (pc : Option Nat), cx E w w' (fun q => q = rd ∨ q = a ∨ q = b) 20 → w'.1 rd = some (rd_ob k xt L (((p : Nat) : Int), ((q : Nat) : Int), nm, pc, some wd, rest)) → c_tp w'.1 xt T → c_str w'.1 wd s → E.2.2.2.2 13 = va_rf pc → K w') : pw_Wp E m_X3_step (d + 1) 88 [some (va_rf (some rd)), none, some (va_rf (some a))] [] w (c_v K) := by
  have cr := c_at_r T L p
  obtain ⟨x13, h13⟩ := k_pc_at hw (j := 1) (by omega)
  obtain ⟨x2, s1, s2, s3, s4, s5, s6⟩ := id hs
  refine s_X3_step_K_88 hk _ _ ⟨rd, _, _, rfl, h, rfl, rd, _, rfl, h, ?_⟩
  refine rd_at_ok (by omega) hk h ht hL (by omega) (rd_isLetter_ok (by omega) (rI_small (by omega) (by omega)) ?_)
  rw [decide_eq_false hc]
  refine ifT (by decide) ⟨a, _, rfl, s1, sb_toString_ok (by omega) hw hs hl (fun v cv hst => ?_)⟩
  have hv := cv.at h
  have tv : c_tp v.1 xt T := cv.at ht
  refine ⟨rd, _, rfl, hv, hb, some x13, h13, ?_⟩
  obtain ⟨u1, u2, u3⟩ := rd_up cv.ok hb hv hk tv (((p : Nat) : Int), ((q : Nat) : Int), nm, pc0, some w.2.1, rest)
  refine ⟨rd, _, rfl, u2, hb, ⟨rfl, ?_⟩⟩
  obtain ⟨v1, v2, v3⟩ := rd_up u1.ok hb u2 hk u3 (((p : Nat) : Int), ((q : Nat) : Int), nm, some x13, some w.2.1, rest)
  have kf : ∀ (q : Nat) (o : pw_O), v.1 q = some o → q = rd → o.1 ≠ 21 ∧ o.1 ≠ 1001 := fun q o ho e => by
    subst e
    rw [hv] at ho; cases ho
    show k ≠ 21 ∧ k ≠ 1001
    omega
  refine H _ w.2.1 (some x13) (((cv.no.tr (u1.tr v1)).mono (fun q o _ hq => Or.inl hq) (by omega))) v2 v3 ?_ h13
  exact hst.keep (u1.tr v1) kf
theorem rd_let_ok {q : Nat} {nm : Int} {pc0 wd0 : Option Nat} {rest : Option Nat × Int × Option Nat} {K : pw_W → Prop} (hd : 10 ≤ d) (hk : k = 3 ∨ k = 8 ∨ k = 9) (hL : 0 ≤ L ∧ L ≤ 600) (hb : pw_base E ≤ rd) (hxb : xt ≠ b) : ∀ (f p : Nat) (w : pw_W) (s : List Int), L.toNat - p = f → p ≤ 600 → wf E w → w.1 rd = some (rd_ob k xt L (((p : Nat) : Int), ((q : Nat) : Int), nm, pc0, wd0, rest)) → c_tp w.1 xt T → c_sb E w.1 a b s → s.length ≤ 7 →
    (∀ (w' : pw_W) (wd : Nat) (pc : Option Nat), cx E w w' (fun q => q = rd ∨ q = a ∨ q = b) 20 → w'.1 rd = some (rd_ob k xt L (((p + (k_run T L 97 122 p).length : Nat) : Int), ((q : Nat) : Int), nm, pc, some wd, rest)) → c_tp w'.1 xt T → c_str w'.1 wd (s ++ (k_run T L 97 122 p).take (7 - s.length)) → E.2.2.2.2 13 = va_rf pc → K w') → pw_Wp E m_X3_step (d + 1) 88 [some (va_rf (some rd)), none, some (va_rf (some a))] [] w (c_v K) := by
  have k3 : k ≠ 20 ∧ k ≠ 1001 ∧ k ≠ 21 := by omega
  intro f
  induction f with
  | zero =>
    intro p w s hf hp6 hw h ht hs hl H
    have hc : c_at T L p = -1 := by unfold c_at; rw [if_pos (by omega)]
    rw [k_run_n (by omega)] at H
    exact rd_let_end hd hk hL hb hp6 hw h ht hs hl (by omega) (fun w' wd pc c' h' t' st' k' => H w' wd pc c' h' t' (by rw [List.take_nil, List.append_nil]; exact st') k')
  | succ f ih =>
    intro p w s hf hp6 hw h ht hs hl H
    have cr := c_at_r T L p
    by_cases hc : 97 ≤ c_at T L p ∧ c_at T L p ≤ 122
    · rw [k_run_c (by omega) hc] at H
      obtain ⟨x2, s1, s2, s3, s4, s5, s6⟩ := id hs
      refine s_X3_step_K_88 hk _ _ ⟨rd, _, _, rfl, h, rfl, rd, _, rfl, h, ?_⟩
      refine rd_at_ok (by omega) hk h ht hL (by omega) (rd_isLetter_ok (by omega) (rI_small (by omega) (by omega)) ?_)
      rw [decide_eq_true hc]
      refine ifF (by decide) ⟨a, _, rfl, s1, sb_length_ok (by omega) hs ?_⟩
      have l7 : ((7 : Int32) ≤ iI (s.length : Nat)) = ((7 : Int) ≤ (s.length : Nat)) := iI_le (a := 7) (rI_small (by omega) (by omega)) (rI_small (by omega) (by omega))
      have e1 : iI (p : Nat) + 1 = iI ((p + 1 : Nat) : Int) := by rw [iI_a1]; rfl
      have elen : ∀ n : Nat, p + (n + 1) = p + 1 + n := fun n => by omega
      have kk : ∀ {p q : Nat} {o o' : pw_O}, w.1 p = some o → w.1 q = some o' → o.1 ≠ o'.1 → p ≠ q := fun {p q o o'} h1 h2 h3 e => by
        subst e
        rw [h1] at h2
        injection h2 with h2
        exact h3 (by rw [h2])
      have ra : rd ≠ a := kk h s1 (show k ≠ 20 from k3.1)
      have rb : rd ≠ b := kk h s2 (show k ≠ 1001 from k3.2.1)
      by_cases c7 : 7 ≤ s.length
      · refine ifT (by rw [l7]; omega) ⟨rd, _, _, rfl, h, rfl, rd, _, rfl, h, hb, ?_⟩
        obtain ⟨u1, u2, u3⟩ := rd_up hw hb h hk ht (((p + 1 : Nat) : Int), ((q : Nat) : Int), nm, pc0, wd0, rest)
        show pw_Wp E m_X3_step (d + 1) 88 [some (va_rf (some rd)), none, some (va_rf (some a))] [] (pw_up w rd (k, [va_rf (some xt), .int (iI L), .int (iI (p : Nat) + 1), .int (iI (q : Nat)), .int (iI nm), va_rf pc0, va_rf wd0, va_rf rest.1, .int (iI rest.2.1), va_rf rest.2.2])) (c_v K)
        rw [e1]
        refine ih (p + 1) _ s (by omega) (by omega) u1.ok u2 u3 ⟨x2, by rw [pw_up_ne (Ne.symm ra)]; exact s1, by rw [pw_up_ne (Ne.symm rb)]; exact s2, s3, s4, s5, s6⟩ hl (fun w' wd pc c' h' t' st' k' => H w' wd pc (((u1.mono (fun q o _ hq => Or.inl hq) (Nat.le_refl _)).tr c').le (by omega)) ?_ t' ?_ k')
        · rw [h', List.length_cons, elen (k_run T L 97 122 (p + 1)).length]
        · rw [show 7 - s.length = 0 by omega] at st' ⊢
          exact st'
      · refine ifF (by rw [l7]; omega) ⟨rd, _, _, rfl, h, rfl, rd, _, rfl, h, rd_at_ok (by omega) hk h ht hL (by omega) ?_⟩
        have e6 : ((iI (c_at T L p)).toUInt32 % 65536).toInt32 = iI (c_at T L p) := by
          have : ∀ x : Fin 26, ((iI (97 + ((x : Nat) : Int))).toUInt32 % 65536).toInt32 = iI (97 + ((x : Nat) : Int)) := by decide
          have := this ⟨(c_at T L p - 97).toNat, by omega⟩
          have : ((iI (97 + (((c_at T L p - 97).toNat : Nat) : Int))).toUInt32 % 65536).toInt32 = iI (97 + (((c_at T L p - 97).toNat : Nat) : Int)) := this
          rw [show 97 + (((c_at T L p - 97).toNat : Nat) : Int) = c_at T L p by omega] at this
          exact this
        rw [e6]
        refine ⟨a, _, rfl, s1, sb_append_ok (by omega) hw hs (by omega) hc (fun v cv nv hsv => ?_)⟩
        have hv : v.1 rd = _ := cv.keep h (fun hq => hq.elim ra rb)
        have tv : c_tp v.1 xt T := cv.keep ht (fun hq => by
          have ht' : w.1 xt = _ := ht
          rcases hq with rfl | rfl
          · rw [ht'] at s1; cases s1
          · exact hxb rfl)
        refine ⟨rd, _, _, rfl, hv, rfl, rd, _, rfl, hv, hb, ?_⟩
        obtain ⟨u1, u2, u3⟩ := rd_up cv.ok hb hv hk tv (((p + 1 : Nat) : Int), ((q : Nat) : Int), nm, pc0, wd0, rest)
        show pw_Wp E m_X3_step (d + 1) 88 [some (va_rf (some rd)), none, some (va_rf (some a))] [] (pw_up v rd (k, [va_rf (some xt), .int (iI L), .int (iI (p : Nat) + 1), .int (iI (q : Nat)), .int (iI nm), va_rf pc0, va_rf wd0, va_rf rest.1, .int (iI rest.2.1), va_rf rest.2.2])) (c_v K)
        rw [e1]
        obtain ⟨y2, t1, t2, t3, t4, t5, t6⟩ := hsv
        refine ih (p + 1) _ (s ++ [c_at T L p]) (by omega) (by omega) u1.ok u2 u3 ⟨y2, by rw [pw_up_ne (Ne.symm ra)]; exact t1, by rw [pw_up_ne (Ne.symm rb)]; exact t2, t3, t4, t5, t6⟩ (by rw [List.length_append]; show s.length + 1 ≤ 7; omega) (fun w' wd pc c' h' t' st' k' => H w' wd pc ((((cv.mono (fun q o _ hq => Or.inr hq) (Nat.le_refl _)).tr (u1.mono (fun q o _ hq => Or.inl hq) (Nat.le_refl _))).tr c').le (by omega)) ?_ t' ?_ k')
        · rw [h', List.length_cons, elen (k_run T L 97 122 (p + 1)).length]
        · obtain ⟨n, hn⟩ : ∃ n, 7 - s.length = n + 1 := ⟨6 - s.length, by omega⟩
          rw [List.length_append, show 7 - (s.length + [c_at T L p].length) = n by show 7 - (s.length + 1) = n; omega, List.append_assoc] at st'
          rw [hn]
          exact st'
    · rw [k_run_n hc] at H
      exact rd_let_end hd hk hL hb hp6 hw h ht hs hl hc (fun w' wd pc c' h' t' st' k' => H w' wd pc c' h' t' (by rw [List.take_nil, List.append_nil]; exact st') k')
end
