set_option maxRecDepth 100000
/-! the component: index: its loops -/
def ixS (E : pw_E) (W u : pw_W) (c m1 : Nat) (mc1 : Int32) (xs1 : List tE) (Q : Int → qT) (P : Int → Prop) : Prop := cx E W u c_no c ∧ c_om E u.1 m1 mc1 none xs1 Q P ∧ ∀ q, oF m1 xs1 q → W.2.1 ≤ q
def ixH (E : pw_E) (W u : pw_W) (m1 : Nat) (xs1 : List tE) (m2 : Nat) (mc2 : Int32) (ks2 : Option Nat) (xs2 : List tE) (N : Int → Int) : Prop := c_hm E u.1 m2 mc2 ks2 xs2 N ∧ ∀ q, t_F m2 xs2 q → W.2.1 ≤ q ∧ ¬ oF m1 xs1 q
def da_w (Ds : List dc) : Prop := ∀ D ∈ Ds, (∀ row ∈ D.1, row.length ≤ 20) ∧ ∀ s ∈ D.2.1, 1 ≤ s.length ∧ s.length ≤ 4
theorem da_w.key {h : pw_H} {Ds : List dc} (k : da_w Ds) {i j c v p : Nat} {D : dc} {row : List Nat} {s : List Int} (hi : Ds[i]? = some D) (hv : D.1[v]? = some row) (hp : row[p]? = some j) (hs : D.2.1[j]? = some s) (hc : c_str h c s) : c_key false h c (ix_k D v p) := by
  obtain ⟨k1, k2⟩ := (k D (List.mem_of_getElem? hi)).2 s (List.mem_of_getElem? hs)
  refine ⟨s, hc, k1, k2, ?_⟩
  unfold ix_k
  rw [dc_w_eq hv hp hs]
theorem ix_n_s (D : dc) (v : Nat) (p : Nat) : (fun k => if k = ix_k D v p then ix_n D v (ix_k D v p) p + 1 else ix_n D v k p) = fun k => ix_n D v k (p + 1) := by
  funext k
  unfold ix_n
  rw [upto_s]
  by_cases q : k = ix_k D v p
  · subst q
    rw [if_pos rfl, if_pos rfl]
  · rw [if_neg q, if_neg (Ne.symm q), Int.add_zero]
section
variable {E : pw_E} {d : Nat} {W w u : pw_W} {a m1 m2 i v : Nat} {Ds : List dc} {D : dc} {row : List Nat} {t : Int} {mc1 mc2 : Int32} {xs1 xs2 : List tE} {Q : Int → qT} {P : Int → Prop} {N : Int → Int}
theorem ixS.cxno {c n : Nat} {u' : pw_W} (h : ixS E W u c m1 mc1 xs1 Q P) (z : cx E u u' c_no n) : ixS E W u' (c + n) m1 mc1 xs1 Q P := ⟨h.1.tr z, h.2.1.keep z (fun _ _ f => f) no_K, h.2.2⟩
theorem ixH.cxno {n : Nat} {u' : pw_W} {ks2 : Option Nat} (h : ixH E W u m1 xs1 m2 mc2 ks2 xs2 N) (z : cx E u u' c_no n) : ixH E W u' m1 xs1 m2 mc2 ks2 xs2 N := ⟨h.1.keep z (fun _ _ f => f) no_K, h.2⟩
theorem ix_66 {r : Nat} {K : Option Nat → pw_W → Prop} (hd : 12 ≤ d) (hW : wf E W) (h : c_arch E W.1 W.1 a Ds t) (hD : da_ok Ds) (hw : da_w Ds) (hi : Ds[i]? = some D) (hv : D.1[v]? = some row) (hr : c_ints W.1 r row) : ∀ (f p : Nat) (u : pw_W) (c : Nat) (mc2 : Int32) (xs2 : List tE), p + f = row.length → ixS E W u c m1 mc1 xs1 Q P → ixH E W u m1 xs1 m2 mc2 none xs2 (fun κ => ix_n D v κ p) → xs2.length ≤ p →
    (∀ (u' : pw_W) (mc2' : Int32) (xs2' : List tE), ixS E W u' (c + 15 * f) m1 mc1 xs1 Q P → ixH E W u' m1 xs1 m2 mc2' none xs2' (fun κ => ix_n D v κ row.length) → xs2'.length ≤ row.length → pw_Wp E m_X5_index (d + 1) 66 [some (va_rf (some a)), some (va_rf (some m1)), some (.int (iI (i : Nat))), some (.int (iI (v : Nat))), some (va_rf (some m2)), some (va_rf (some r)), some (.int (iI row.length)), some (.int (iI row.length)), none, none, none] [] u' (c_r K)) →
    pw_Wp E m_X5_index (d + 1) 66 [some (va_rf (some a)), some (va_rf (some m1)), some (.int (iI (i : Nat))), some (.int (iI (v : Nat))), some (va_rf (some m2)), some (va_rf (some r)), some (.int (iI row.length)), some (.int (iI (p : Nat))), none, none, none] [] u (c_r K) := by
  obtain ⟨g1, g2, g3, g4, g5, g6, g7⟩ := hD.at hi
  obtain ⟨b1, b2, b3, b4, b5⟩ := g4.row hv
  intro f
  induction f with
  | zero =>
    intro p u c mc2 xs2 hp hS hH hl fin
    have : p = row.length := by omega
    subst this
    exact fin u mc2 xs2 hS hH hl
  | succ f ih =>
    intro p u c mc2 xs2 hp hS hH hl fin
    have hj : row[p]? = some row[p] := List.getElem?_eq_getElem (by omega)
    obtain ⟨s, hs⟩ := b2 p _ hj
    have hA := h.mono hS.1.sub1 hS.1.sub1
    refine s_X5_index_66 _ _ _ _ _ _ _ _ (ifF (by rw [iI_len (by omega) (by omega)]; omega) (dq_aldi (hS.1.at hr) hj b1 (qa_of (by omega) hA hi (fun b hb => dq_tok (by omega) hb hs (fun tk cs htk hcs => ⟨tk, _, _, rfl, htk, rfl, ?_⟩)))))
    have hk : c_key false u.1 cs (ix_k D v p) := hw.key hi hv hj hs hcs
    obtain ⟨us2, hm2⟩ := hH.1.1.obj
    /- the count goes up by one -/
    have put : ∀ (u1 : pw_W) (b : Nat) (KK : Option Nat → pw_W → Prop), cx E u u1 c_no 5 → c_box u1.1 b (ix_n D v (ix_k D v p) p + 1) → (∀ o w', pw_Wp E m_X5_index (d + 1) 66 [some (va_rf (some a)), some (va_rf (some m1)), some (.int (iI (i : Nat))), some (.int (iI (v : Nat))), some (va_rf (some m2)), some (va_rf (some r)), some (.int (iI row.length)), some (.int (iI (p : Nat) + 1)), none, none, none] [] w' (c_r K) → KK o w') → f_V E u1 (some m2) 22 m_J18_put d [va_rf (some cs), va_rf (some b)] (c_r KK) := by
      intro u1 b KK z hb hKK
      have hS1 := hS.cxno z
      have hH1 := hH.cxno z
      obtain ⟨us, hm⟩ := hH1.1.1.obj
      refine ⟨m2, us, rfl, hm, hm_put_ok (by omega) z.ok hH1.1 (hk.mono z.sub1) hb (by omega) (ix_n_r D v _ p).1 (fun w' mc' xs' o z2 hF hl' hh => ?_)⟩
      have hS2 : ixS E W w' (c + 5 + 10) m1 mc1 xs1 Q P := ⟨hS1.1.tn hW z2 (fun q hq => Or.inr (hH1.2 q hq).1), hS1.2.1.keep z2 (fun q hq hq' => (hH1.2 q hq').2 hq) (t_F_ok hH1.1.1), hS1.2.2⟩
      refine hKK o w' ?_
      rw [iI_ad1]
      rw [ix_n_s] at hh
      refine ih (p + 1) w' (c + 5 + 10) mc' xs' (by omega) hS2 ⟨hh, fun q hq => ?_⟩ (by omega) (fun u' mc2' xs2' s1 s2 s3 => fin u' mc2' xs2' ⟨s1.1.le (by omega), s1.2⟩ s2 s3)
      rcases hF q hq with hq | hq
      · exact hH1.2 q hq
      · refine ⟨Nat.le_trans hS1.1.le1 hq, fun ho => ?_⟩
        have := oF_lt z.ok hS1.2.1 q ho
        omega
    refine ⟨m2, us2, rfl, hm2, hm_get_ok (by omega) hS.1.ok hH.1 hk (fun b hN hb => ?_) (fun hN => ?_)⟩
    · have hnr := ix_n_r D v (ix_k D v p) p
      obtain ⟨e, rfl, -⟩ := pw_d1 hd
      refine ⟨Or.inr ⟨b, 28, _, rfl, hb, c_canN⟩, ifF (by simp) ⟨b, _, rfl, hb, e_J21_intValue _ (s_J21_intValue_0 _ ⟨b, _, _, rfl, hb, rfl, _, rfl, ?_⟩)⟩⟩
      have e1 : iI (ix_n D v (ix_k D v p) p) + 1 = iI (ix_n D v (ix_k D v p) p + 1) := iI_a1 _
      show pw_Cl E m_J21_valueOf _ [.int (iI (ix_n D v (ix_k D v p) p) + 1)] u _
      rw [e1]
      exact ci_valueOf_ok (by omega) hS.1.ok ⟨by omega, by omega⟩ (fun u1 o z hbx => put u1 o _ z hbx (fun o w' k => k))
    · have hnr := ix_n_r D v (ix_k D v p) p
      have e0 : ix_n D v (ix_k D v p) p = 0 := by
        have : ¬ 0 < ix_n D v (ix_k D v p) p := hN
        omega
      refine ⟨Or.inl rfl, ifT rfl ?_⟩
      exact ci_valueOf_ok (x := 1) (by omega) hS.1.ok ⟨by omega, by omega⟩ (fun u1 o z hbx => put u1 o _ z (by rw [e0]; exact hbx) (fun o w' k => k))
def tk (xs : List tE) (k : Nat) (κ : Int) : Bool := (xs.take k).any (fun e => decide (e.2.2.1 = κ))
theorem tk_s {k : Nat} {e : tE} (h : xs2[k]? = some e) (κ : Int) : tk xs2 (k + 1) κ = (tk xs2 k κ || decide (e.2.2.1 = κ)) := by
  unfold tk
  rw [List.take_succ, h, List.any_append]
  simp
theorem tk_new {τ : Bool} {h : pw_H} {m : Nat} {mc : Int32} {ks : Option Nat} (hT : c_tm E τ h h m mc ks xs2) {k : Nat} {e : tE} (he : xs2[k]? = some e) : tk xs2 k e.2.2.1 = false := by
  unfold tk
  rw [List.any_eq_false]
  intro f hf
  obtain ⟨j, hj⟩ := List.getElem?_of_mem hf
  have hjk : j < k := by
    have := (List.getElem?_eq_some_iff.mp hj).1
    simp at this
    omega
  rw [List.getElem?_take_of_lt hjk] at hj
  have := hT.2.2.1 j k f e hjk hj he
  simp
  omega
theorem tk_all {h : pw_H} {m : Nat} {mc : Int32} {ks : Option Nat} (hT : c_hm E h m mc ks xs2 N) (κ : Int) : tk xs2 xs2.length κ = decide (0 < N κ) := by
  unfold tk
  rw [List.take_length]
  by_cases q : 0 < N κ
  · rw [decide_eq_true q]
    obtain ⟨e, he, hκ⟩ := (hT.2.2 κ).mpr q
    exact List.any_eq_true.mpr ⟨e, he, decide_eq_true hκ⟩
  · rw [decide_eq_false q, List.any_eq_false]
    intro e he hκ
    exact q ((hT.2.2 κ).mp ⟨e, he, of_decide_eq_true hκ⟩)
/-- the index once k keys are through -/
def ix_Q (xs2 : List tE) (k : Nat) (i x : Int) (N : Int → Int) (Q : Int → qT) : Int → qT := fun κ => if tk xs2 k κ = true then ix_see i x (N κ) (Q κ) else Q κ
theorem ixq_see {i x n : Int} {q : qT} (hq : 0 ≤ q.1 ∧ rI q.2.1 ∧ (-1 ≤ q.2.2.1 ∧ q.2.2.1 ≤ 1000) ∧ 0 ≤ q.2.2.2 ∧ q.2.2.2 ≤ 1000) (hx : 0 ≤ x ∧ x ≤ 1000) (hn : 0 ≤ n ∧ n ≤ 1000) : 0 ≤ (ix_see i x n q).1 ∧ rI (ix_see i x n q).2.1 ∧ (-1 ≤ (ix_see i x n q).2.2.1 ∧ (ix_see i x n q).2.2.1 ≤ 1000) ∧ 0 ≤ (ix_see i x n q).2.2.2 ∧ (ix_see i x n q).2.2.2 ≤ 1000 := by
  unfold ix_see
  refine ⟨by show 0 ≤ q.1 + 1; omega, rI_or _ _, ?_, ?_⟩
  · show -1 ≤ (if q.2.2.1 = -1 then x else min q.2.2.1 x) ∧ (if q.2.2.1 = -1 then x else min q.2.2.1 x) ≤ 1000
    split <;> omega
  · show 0 ≤ max q.2.2.2 n ∧ max q.2.2.2 n ≤ 1000
    omega
theorem ix_158 {it : Nat} {ks2 : Option Nat} {x : Int} {K : Option Nat → pw_W → Prop} (hd : 12 ≤ d) (hW : wf E W) (h : c_arch E W.1 W.1 a Ds t) (hD : da_ok Ds) (hi : Ds[i]? = some D) (hx : D.2.2[v]? = some x) (hit : W.2.1 ≤ it) (hQ : ixq_ok Q) (hN : ∀ κ, 0 ≤ N κ ∧ N κ ≤ 1000) (hQ0 : ∀ κ, ¬ P κ → Q κ = (0, 0, -1, 0)) :
    ∀ (f k : Nat) (u : pw_W) (c : Nat) (mc1 : Int32) (xs1 : List tE), k + f = xs2.length → ixS E W u c m1 mc1 xs1 (ix_Q xs2 k i x N Q) (fun κ => P κ ∨ tk xs2 k κ = true) → ixH E W u m1 xs1 m2 mc2 ks2 xs2 N → c_kit u.1 it k mc2 m2 xs2 → xs1.length + f < 100000 →
    (∀ (u' : pw_W) (mc1' : Int32) (xs1' : List tE), ixS E W u' (c + 18 * f) m1 mc1' xs1' (ix_Q xs2 xs2.length i x N Q) (fun κ => P κ ∨ tk xs2 xs2.length κ = true) → xs1'.length ≤ xs1.length + f → pw_Wp E m_X5_index (d + 1) 20 [some (va_rf (some a)), some (va_rf (some m1)), some (.int (iI (i : Nat))), some (.int (iI ((v + 1 : Nat) : Int))), none, none, none, none, none, none, none] [] u' (c_r K)) →
    pw_Wp E m_X5_index (d + 1) 158 [some (va_rf (some a)), some (va_rf (some m1)), some (.int (iI (i : Nat))), some (.int (iI (v : Nat))), some (va_rf (some m2)), some (va_rf (some it)), none, none, none, none, none] [] u (c_r K) := by
  obtain ⟨g1, g2, g3, g4, g5, g6, g7⟩ := hD.at hi
  have hxr := g4.2.2.2.2.2 x (List.mem_of_getElem? hx)
  intro f
  induction f with
  | zero =>
    intro k u c mc1 xs1 hk hS hH hit1 hl fin
    refine s_X5_index_158 _ _ _ _ _ _ (tm_step (by omega) hS.1.ok hit1 (Nat.le_trans hW.b hit) hH.1.1 (fun _ => ?_) (fun e w' he => ?_))
    · rw [iI_ad1]
      have : k = xs2.length := by omega
      subst this
      exact fin u mc1 xs1 hS (by omega)
    · have := (List.getElem?_eq_some_iff.mp he).1
      omega
  | succ f ih =>
    intro k u c mc1 xs1 hk hS hH hit1 hl fin
    refine s_X5_index_158 _ _ _ _ _ _ (tm_step (by omega) hS.1.ok hit1 (Nat.le_trans hW.b hit) hH.1.1 (fun q => ?_) (fun e0 u1 he zz nn hit2 => ?_))
    · rw [List.getElem?_eq_none_iff] at q
      omega
    obtain ⟨l0, hit1'⟩ := hit1
    have hem := List.mem_of_getElem? he
    have hkind : ∀ (q : Nat) (o : pw_O), u.1 q = some o → q = it → o.1 ≠ 21 ∧ o.1 ≠ 28 ∧ o.1 ≠ 1001 := by
      intro q o hq hqi
      subst hqi
      rw [hit1'] at hq
      cases hq
      exact ⟨(by decide : (25 : Nat) ≠ 21), (by decide : (25 : Nat) ≠ 28), (by decide : (25 : Nat) ≠ 1001)⟩
    have hnH : ∀ q, t_F m2 xs2 q → ¬ q = it := by
      rintro q hq rfl
      rcases hH.1.1.kind q _ hit1' hq with z | z
      · exact absurd (show (25 : Nat) = 22 from z) (by decide)
      · exact absurd (show (25 : Nat) = 23 from z) (by decide)
    have hnO : ∀ q, oF m1 xs1 q → ¬ q = it := by
      rintro q (hq | ⟨e, he', hq⟩) rfl
      · rcases hS.2.1.1.kind q _ hit1' hq with z | z
        · exact absurd (show (25 : Nat) = 22 from z) (by decide)
        · exact absurd (show (25 : Nat) = 23 from z) (by decide)
      · obtain ⟨b, q1, q2, q3⟩ := hS.2.1.2.1 e he'
        have e9 := Option.some.inj (q1.symm.trans hq)
        rw [e9] at q3
        have q3 : u.1 _ = _ := q3
        rw [hit1'] at q3
        cases q3
    have hS1 : ixS E W u1 c m1 mc1 xs1 (ix_Q xs2 k i x N Q) (fun κ => P κ ∨ tk xs2 k κ = true) := ⟨(hS.1.tn hW zz (fun q hq => Or.inr (by have hq : q = it := hq; omega))).le (by omega), hS.2.1.keep zz hnO hkind, hS.2.2⟩
    have hH1 : ixH E W u1 m1 xs1 m2 mc2 ks2 xs2 N := ⟨hH.1.keep zz hnH hkind, hH.2⟩
    have hkey : c_key false u1.1 e0.2.1 e0.2.2.1 := hH1.1.1.2.1 e0 hem
    obtain ⟨n0, us0, ho0, -⟩ := hkey.obj
    have hstr : pw_ok1 u1 "java/lang/String" (some e0.2.1) := by
      obtain ⟨s, ⟨b, v2, v3, q1, -⟩, -⟩ := id hkey
      exact Or.inr ⟨e0.2.1, 21, _, rfl, q1, c_canS⟩
    have hpos : 0 < N e0.2.2.1 := (hH1.1.2.2 _).mp ⟨e0, hem, rfl⟩
    have htk := tk_new hH1.1.1 he
    have hQk : ix_Q xs2 k i x N Q e0.2.2.1 = Q e0.2.2.1 := by unfold ix_Q; rw [htk]; rfl
    have hQok : ixq_ok (ix_Q xs2 k i x N Q) := by
      intro κ
      unfold ix_Q
      split
      · exact ixq_see (hQ κ) hxr (hN κ)
      · exact hQ κ
    have hQn : ∀ R : Int → qT, R = ix_Q xs2 k i x N Q → (fun κ => if κ = e0.2.2.1 then ix_see i x (N e0.2.2.1) (R κ) else R κ) = ix_Q xs2 (k + 1) i x N Q := by
      rintro R rfl
      funext κ
      unfold ix_Q
      rw [tk_s he]
      by_cases q : κ = e0.2.2.1
      · subst q
        rw [if_pos rfl, htk, decide_eq_true (show e0.2.2.1 = e0.2.2.1 from rfl)]
        rfl
      · rw [if_neg q, decide_eq_false (Ne.symm q), Bool.or_false]
    have hPn : ∀ κ, ((P κ ∨ tk xs2 k κ = true) ∨ κ = e0.2.2.1) ↔ (P κ ∨ tk xs2 (k + 1) κ = true) := by
      intro κ
      rw [tk_s he, Bool.or_eq_true, decide_eq_true_eq]
      constructor
      · rintro ((q | q) | q)
        · exact Or.inl q
        · exact Or.inr (Or.inl q)
        · exact Or.inr (Or.inr q.symm)
      · rintro (q | q | q)
        · exact Or.inl (Or.inl q)
        · exact Or.inl (Or.inr q)
        · exact Or.inr q.symm
    /- the entry is got and sees -/
    have tail : ∀ (u2 : pw_W) (c2 : Nat) (mc1' : Int32) (xs1' : List tE), c2 ≤ c + 18 → xs1'.length ≤ xs1.length + 1 → ixS E W u2 c2 m1 mc1' xs1' (ix_Q xs2 k i x N Q) (fun κ => P κ ∨ tk xs2 (k + 1) κ = true) → ixH E W u2 m1 xs1' m2 mc2 ks2 xs2 N → c_kit u2.1 it (k + 1) mc2 m2 xs2 → c_key false u2.1 e0.2.1 e0.2.2.1 → f_V E u2 (some m1) 22 m_J18_get d [va_rf (some e0.2.1)] (c_r (fun o17 w16 => f_cast w16 o17 "VersionSearch$Entry" (f_V E w16 (some a) 4 m_X5_of d [.int (iI (i : Nat))] (c_r (fun o22 w21 => f_getr w21 o22 6 2 (fun x26 => f_V E w21 x26 18 m_J2_get d [.int (iI (v : Nat))] (c_r (fun o31 w30 => f_cast w30 o31 "java/lang/Integer" (f_V E w30 o31 28 m_J21_intValue d [] (c_i (fun x36 w35 => f_V E w35 (some m2) 22 m_J18_get d [va_rf (some e0.2.1)] (c_r (fun o41 w40 => f_cast w40 o41 "java/lang/Integer" (f_V E w40 o41 28 m_J21_intValue d [] (c_i (fun x46 w45 => f_V E w45 o17 11 m_X12_sees d [.int (iI (i : Nat)), .int x36, .int x46] (c_v (fun w50 => pw_Wp E m_X5_index (d + 1) 158 [some (va_rf (some a)), some (va_rf (some m1)), some (.int (iI (i : Nat))), some (.int (iI (v : Nat))), some (va_rf (some m2)), some (va_rf (some it)), none, none, none, none, none] [] w50 (c_r K))))))))))))))))))) := by
      intro u2 c2 mc1' xs1' hc2 hl1 hS2 hH2 hit3 hkey2
      obtain ⟨usm, hm⟩ := hS2.2.1.obj
      refine ⟨m1, usm, rfl, hm, om_get_ok (by omega) hS2.1.ok hS2.2.1 hkey2 (fun e1 b he1 hκ1 hv1 hb1 hent => ?_) (fun q => absurd ((hPn _).mp (Or.inr rfl)) q)⟩
      refine ⟨Or.inr ⟨b, 11, _, rfl, hent, c_canEn⟩, qa_of (by omega) (h.mono hS2.1.sub1 hS2.1.sub1) hi (fun bd hbd => dq_date (by omega) hbd hx ?_)⟩
      obtain ⟨usm2, hm2⟩ := hH2.1.1.obj
      refine ⟨m2, usm2, rfl, hm2, hm_get_ok (by omega) hS2.1.ok hH2.1 hkey2 (fun bx _ hbx => ?_) (fun q => absurd hpos q)⟩
      obtain ⟨d', rfl, hd'⟩ := pw_d1 (show 0 + 1 ≤ d by omega)
      refine ⟨Or.inr ⟨bx, 28, _, rfl, hbx, c_canN⟩, bx, _, rfl, hbx, e_J21_intValue _ (s_J21_intValue_0 _ ⟨bx, _, _, rfl, hbx, rfl, _, rfl, ?_⟩)⟩
      have hNr := hN e0.2.2.1
      refine ⟨b, _, rfl, hent, om_sees_ok (by omega) hS2.1.ok hS2.2.1 he1 hv1 hQok hxr ⟨by omega, by omega⟩ (fun u3 z3 n3 k3 => ?_)⟩
      have hob : oF m1 xs1' b := Or.inr ⟨e1, he1, hv1⟩
      have hbW := hS2.2.2 b hob
      have hkb : ∀ (q : Nat) (o : pw_O), u2.1 q = some o → q = b → o.1 ≠ 21 ∧ o.1 ≠ 28 ∧ o.1 ≠ 1001 := by
        intro q o hq hqi
        subst hqi
        have hent : u2.1 q = _ := hent
        rw [hent] at hq
        cases hq
        exact ⟨(by decide : (11 : Nat) ≠ 21), (by decide : (11 : Nat) ≠ 28), (by decide : (11 : Nat) ≠ 1001)⟩
      rw [hκ1] at k3
      have k3 : c_om E u3.1 m1 mc1' none xs1' (fun κ => if κ = e0.2.2.1 then ix_see i x (N e0.2.2.1) (ix_Q xs2 k i x N Q κ) else ix_Q xs2 k i x N Q κ) (fun κ => P κ ∨ tk xs2 (k + 1) κ = true) := k3
      rw [hQn _ rfl] at k3
      have hit4 : c_kit u3.1 it (k + 1) mc2 m2 xs2 := by
        obtain ⟨l, hl'⟩ := hit3
        refine ⟨l, z3.keep hl' (fun q => ?_)⟩
        have q : it = b := q
        rw [q] at hl'
        have hent : u2.1 b = _ := hent
        rw [hent] at hl'
        cases hl'
      refine ih (k + 1) u3 c2 mc1' xs1' (by omega) ⟨(hS2.1.tn hW z3 (fun q hq => Or.inr (by have hq : q = b := hq; omega))).le (by omega), k3, hS2.2.2⟩ ⟨hH2.1.keep z3 (fun q hq hq' => (hH2.2 q hq).2 (by have hq' : q = b := hq'; rw [hq']; exact hob)) hkb, hH2.2⟩ hit4 (by omega) (fun u' mc1'' xs1'' s1 s2 => fin u' mc1'' xs1'' ⟨s1.1.le (by omega), s1.2⟩ (by omega))
    obtain ⟨usm, hm⟩ := hS1.2.1.obj
    refine ⟨hstr, m1, usm, rfl, hm, om_get_ok (by omega) hS1.1.ok hS1.2.1 hkey (fun e1 b he1 hκ1 hv1 hb1 hent => ?_) (fun hnP => ?_)⟩
    · refine ifF (by simp) (tail u1 c mc1 xs1 (by omega) (by omega) ⟨hS1.1, ?_, hS1.2.2⟩ hH1 hit2 hkey)
      obtain ⟨q1, q2, q3, q4⟩ := hS1.2.1
      refine ⟨q1, q2, q3, fun κ => (q4 κ).trans ?_⟩
      show (P κ ∨ tk xs2 k κ = true) ↔ (P κ ∨ tk xs2 (k + 1) κ = true)
      rw [← hPn]
      constructor
      · exact Or.inl
      · rintro (q | q)
        · exact q
        · rw [q]; exact (q4 _).mp ⟨e1, he1, hκ1⟩
    · refine ifT rfl ?_
      have hnP0 : ¬ P e0.2.2.1 := fun q => hnP (Or.inl q)
      have c1 : cx E u1 (pw_new u1 (11, [.int 0, .int 0, .int (-1), .int 0]) 4) c_no 8 := cx.new hS1.1.ok _ 4
      have hS2 := hS1.cxno c1
      have hH2 := hH1.cxno c1
      have hkey2 := hkey.mono c1.sub1
      have hent : c_ent (pw_new u1 (11, [.int 0, .int 0, .int (-1), .int 0]) 4).1 u1.2.1 (ix_Q xs2 k i x N Q e0.2.2.1) := by
        rw [hQk, hQ0 _ hnP0]
        exact pw_new_1 u1 (11, [.int 0, .int 0, .int (-1), .int 0]) 4
      obtain ⟨d', rfl, hd'⟩ := pw_d1 hd
      refine e_X12_init _ (s_X12_init_0 _ ⟨u1.2.1, _, rfl, pw_new_1 _ _ _, hS1.1.ok.b, ?_⟩)
      rw [pw_up_new]
      obtain ⟨usm3, hm3⟩ := hS2.2.1.obj
      have hfr : ∀ e ∈ xs1, e.2.2.2 ≠ some u1.2.1 := by
        intro e he' q
        have := oF_lt hS1.1.ok hS1.2.1 u1.2.1 (Or.inr ⟨e, he', q⟩)
        omega
      refine ⟨rfl, m1, usm3, rfl, hm3, om_put_ok (by omega) hS2.1.ok hS2.2.1 hkey2 hnP hent hS1.1.ok.b hfr (by omega) (fun w' mc' xs' z hF hl' hom => ?_)⟩
      have hkk := t_F_ok hS2.2.1.1
      refine tail w' (c + 8 + 10) mc' xs' (by omega) (by omega) ⟨hS2.1.tn hW z (fun q hq => Or.inr (hS2.2.2 q (Or.inl hq))), ?_, fun q hq => ?_⟩ ⟨hH2.1.keep z (fun q hq hq' => (hH2.2 q hq).2 (Or.inl hq')) hkk, fun q hq => ⟨(hH2.2 q hq).1, fun ho => ?_⟩⟩ ?_ (hkey2.keep z hkk)
      · obtain ⟨q1, q2, q3, q4⟩ := hom
        exact ⟨q1, q2, q3, fun κ => (q4 κ).trans (hPn κ)⟩
      · rcases hF q hq with q1 | q1 | q1
        · exact hS2.2.2 q q1
        · rw [q1]; exact hS1.1.le1
        · exact Nat.le_trans hS2.1.le1 q1
      · have hlt := tF_lt hS1.1.ok hH1.1.1 q hq
        rcases hF q ho with q1 | q1 | q1
        · exact (hH2.2 q hq).2 q1
        · omega
        · have : u1.2.1 + 1 ≤ q := q1
          omega
      · obtain ⟨l, hl2⟩ := hit2
        refine ⟨l, z.keep (c1.at hl2) (fun q => ?_)⟩
        have hni : ¬ t_F m1 xs1 it := fun q => hnO it (Or.inl q) rfl
        exact hni q
end
