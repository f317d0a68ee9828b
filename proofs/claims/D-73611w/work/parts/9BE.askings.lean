set_option maxRecDepth 100000
/-! the component: questions made into objects -/
/-- sort, words, a, b -/
abbrev qQ : Type := Nat × List (List Int) × Int × Int
/-- where a question holds, told of those ahead of it -/
def qst (Ds : List dc) (q : qQ) (φs : List (Nat → Nat → Bool)) : Nat → Nat → Bool :=
  if q.1 = 0 then fun i v => decide (0 < dc_times (da_D Ds i) v q.2.1)
  else if q.1 = 1 then fun i v => dc_near (da_D Ds i) v (q.2.1.getD 0 []) (q.2.1.getD 1 []) q.2.2.1.toNat
  else if q.1 = 2 then fun i v => decide (q.2.2.1 ≤ dc_times (da_D Ds i) v q.2.1)
  else if q.1 = 3 then fun i v => !(φs.getD q.2.2.1.toNat (fun _ _ => false)) i v
  else if q.1 = 4 then fun i v => (List.range (v + 1)).any (fun w => (φs.getD q.2.2.1.toNat (fun _ _ => false)) i w)
  else if q.1 = 5 then fun i v => (φs.getD q.2.2.1.toNat (fun _ _ => false)) i v && (decide (v = 0) || !(φs.getD q.2.2.1.toNat (fun _ _ => false)) i (v - 1))
  else if q.1 = 6 then fun i v => (φs.getD q.2.2.1.toNat (fun _ _ => false)) i v && (φs.getD q.2.2.2.toNat (fun _ _ => false)) i v
  else fun i v => !(!(φs.getD q.2.2.1.toNat (fun _ _ => false)) i v && !(φs.getD q.2.2.2.toNat (fun _ _ => false)) i v)
def qok (k : Nat) (q : qQ) : Prop := q.1 ≤ 7 ∧ q.2.1.length ≤ 1000 ∧ (q.1 = 1 → q.2.1.length = 2) ∧ (q.1 = 1 ∨ q.1 = 2 → 0 ≤ q.2.2.1 ∧ q.2.2.1 ≤ 1000) ∧ (3 ≤ q.1 → 0 ≤ q.2.2.1 ∧ q.2.2.1 < k) ∧ (6 ≤ q.1 → 0 ≤ q.2.2.2 ∧ q.2.2.2 < k)
def c_q (h : pw_H) (a : Nat) (q : qQ) : Prop := ∃ ko wb : Nat, h a = some (10, [va_rf (some ko), va_rf (some wb), .int (iI q.2.2.1), .int (iI q.2.2.2)]) ∧ h ko = some (29, [.int (iI (q.1 : Nat))]) ∧ c_strs h wb q.2.1
theorem c_q.mono {p h : pw_H} {a : Nat} {q : qQ} (k : c_q p a q) (z : c_sub p h) : c_q h a q := by
  obtain ⟨ko, wb, h1, h2, h3⟩ := k
  exact ⟨ko, wb, z _ _ h1, z _ _ h2, h3.mono z⟩
theorem rs_ex (h : pw_H) (X : Nat → Prop) : ∃ p : pw_H, ∀ (q : Nat) (o : pw_O), p q = some o ↔ h q = some o ∧ ¬ X q := by
  classical
  refine ⟨fun q => if X q then none else h q, fun q o => ?_⟩
  show ((if X q then none else h q) = some o) ↔ (h q = some o ∧ ¬ X q)
  by_cases z : X q
  · rw [if_pos z]
    exact ⟨fun e => (by cases e), fun e => absurd z e.2⟩
  · rw [if_neg z]
    exact ⟨fun e => ⟨e, z⟩, fun e => e.1⟩
theorem kH.ext {E : pw_E} {p p' : pw_H} {L L' : List kE} {Ds : List dc} {J d0 o : Nat} {φ : Nat → Nat → Bool} (h : kH E p L Ds J d0 o φ) (hp : c_sub p p') (hJ : J ≤ L.length) (hL : L = L'.take L.length) (hP : kP E p' L') : kH E p' L' Ds J d0 o φ := by
  have hm : ∀ e ∈ L, e ∈ L' := fun e he => by rw [hL] at he; exact List.mem_of_mem_take he
  have ht : L.take J = L'.take J := by
    rw [hL, List.take_take, Nat.min_eq_left (by rw [← hL] at *; omega)]
  intro d u i v D K hd hI hi hv H
  refine h d u i v D K hd ⟨hI.1, fun q o hq => hI.2.1 q o (hp q o hq), fun e he => hI.2.2 e (hm e he)⟩ hi hv (fun u' h1 h2 h3 => ?_)
  refine H u' ⟨h1.1, fun q o hq => h2.keep (hI.2.1 q o hq) ?_, fun e he => ?_⟩ (by rw [← ht]; exact h2) h3
  · rintro ⟨f, hf, hfq⟩
    obtain ⟨-, -, n1, n2, -⟩ := hP.1 f (hm f (List.mem_of_mem_take hf))
    rcases hfq with rfl | rfl
    · rw [n1] at hq; cases hq
    · rw [n2] at hq; cases hq
  · obtain ⟨k, hk⟩ := List.getElem?_of_mem he
    rcases Nat.lt_or_ge k J with z | z
    · refine h1.2.2 e ?_
      have : (L.take J)[k]? = some e := by rw [ht, List.getElem?_take_of_lt z]; exact hk
      exact List.mem_of_mem_take (List.mem_of_getElem? this)
    · obtain ⟨X, Y, x1, x2, x3⟩ := hI.2.2 e he
      have nF : ∀ a, (a = e.2.2.1 ∨ a = e.2.2.2.1) → ¬ k_F (L.take J) a := by
        rintro a ha ⟨f, hf, hfa⟩
        rw [ht] at hf
        obtain ⟨j, hj⟩ := List.getElem?_of_mem hf
        have hjJ : j < J := by
          have := (List.getElem?_eq_some_iff.mp hj).1
          simp at this
          omega
        rw [List.getElem?_take_of_lt hjJ] at hj
        obtain ⟨y1, y2⟩ := hP.2 k j e f hk hj
        obtain ⟨y3, -⟩ := hP.2 j k f e hj hk
        obtain ⟨y4, y5⟩ := y2 (by omega)
        rcases ha with rfl | rfl
        · rcases hfa with t | t
          · exact y4 t
          · exact y1 t
        · rcases hfa with t | t
          · exact y3 t.symm
          · exact y5 t
      exact ⟨X, Y, h2.keep x1 (nF _ (Or.inl rfl)), h2.keep x2 (nF _ (Or.inr rfl)), x3⟩
def kdep (j : Nat) : Nat := 20 + 10 * j
/-- what stands of the questions so far -/
def kS (E : pw_E) (p : pw_H) (th a : Nat) (Ds : List dc) (t : Int) (L : List kE) : Prop :=
  kP E p L ∧ c_arch E p p a Ds t ∧ (∃ x : Value, p th = some (12, [va_rf (some a), x])) ∧ ∀ (j : Nat) (e : kE), L[j]? = some e → kH E p L Ds (j + 1) (kdep j) e.1 e.2.2.2.2
def kphi (L : List kE) : List (Nat → Nat → Bool) := L.map (fun e => e.2.2.2.2)
theorem kphi_at {L : List kE} {j : Nat} {e : kE} (h : L[j]? = some e) : (kphi L).getD j (fun _ _ => false) = e.2.2.2.2 := by
  unfold kphi
  rw [dc_getD (by rw [List.getElem?_map, h]; rfl)]
theorem c_canAs : pw_can 13 "VersionSearch$Asked" := Or.inl ⟨_, rfl, by decide, Or.inr q2048⟩
theorem c_canKO : pw_can 13 "java/lang/Object" := Or.inl ⟨_, rfl, by decide, Or.inr q3246⟩
section
variable {E : pw_E} {d : Nat} {p : pw_H} {L : List kE} {Ds : List dc} {u : pw_W} {th a : Nat} {t : Int}
theorem kS.ext (hS : kS E p th a Ds t L) {p' : pw_H} (hp : c_sub p p') (hP : kP E p' L) : kS E p' th a Ds t L := by
  obtain ⟨h1, h2, ⟨x, h3⟩, h4⟩ := hS
  exact ⟨hP, h2.mono hp hp, ⟨x, hp _ _ h3⟩, fun j e hj => (h4 j e hj).ext hp (by have := (List.getElem?_eq_some_iff.mp hj).1; omega) (by rw [List.take_length]) hP⟩
theorem ck_at_ok {n al b cap : Nat} {mc : Int32} {e0 : kE} {K : Option Nat → pw_W → Prop} (hd : 4 ≤ d) (hth : u.1 th = some (12, [va_rf (some a), va_rf (some al)])) (hl : c_al E u.1 al mc b cap (L.map (fun e => some e.1))) (hn : L[n]? = some e0) (hk : ∃ us, u.1 e0.1 = some (13, us)) (H : K (some e0.1) u) : pw_Cl E m_X13_at d [va_rf (some th), .int (iI (n : Nat))] u (c_r K) := by
  replace hd := pw_d1 hd; obtain ⟨e, rfl, hd⟩ := hd
  obtain ⟨us, hus⟩ := hk
  exact e_X13_at _ _ (s_X13_at_0 _ _ ⟨th, _, _, rfl, hth, rfl, al, _, rfl, hl.1, cl_get_ok (by omega) hl (by rw [List.getElem?_map, hn]; rfl) ⟨Or.inr ⟨e0.1, 13, us, rfl, hus, c_canAs⟩, _, rfl, H⟩⟩)
theorem ck_not_ok {o : Nat} {K : Option Nat → pw_W → Prop} (hd : 50 ≤ d) (hw : wf E u) (H : ∀ u', cx E u u' c_no 5 → u'.2.1 = u.2.1 + 1 → u'.1 u.2.1 = some (2011, [va_rf (some o)]) → K (some u.2.1) u') : pw_Cl E m_X13_not d [va_rf (some o)] u (c_r K) := by
  replace hd := pw_d1 hd; obtain ⟨e, rfl, hd⟩ := hd
  exact e_X13_not _ (s_X13_not_0 _ ⟨hd, _, rfl, H _ (cx.new hw _ 1) rfl (pw_new_1 _ _ _)⟩)
theorem ck_both_ok {o o' : Nat} {K : Option Nat → pw_W → Prop} (hd : 50 ≤ d) (hw : wf E u) (H : ∀ u', cx E u u' c_no 6 → u'.2.1 = u.2.1 + 1 → u'.1 u.2.1 = some (2014, [va_rf (some o), va_rf (some o')]) → K (some u.2.1) u') : pw_Cl E m_X13_both d [va_rf (some o), va_rf (some o')] u (c_r K) := by
  replace hd := pw_d1 hd; obtain ⟨e, rfl, hd⟩ := hd
  exact e_X13_both _ _ (s_X13_both_0 _ _ ⟨hd, _, rfl, H _ (cx.new hw _ 2) rfl (pw_new_1 _ _ _)⟩)
theorem ck_fresh_ok {o : Nat} {K : Option Nat → pw_W → Prop} (hd : 50 ≤ d) (hw : wf E u) (H : ∀ u', cx E u u' c_no 5 → u'.2.1 = u.2.1 + 1 → u'.1 u.2.1 = some (2013, [va_rf (some o)]) → K (some u.2.1) u') : pw_Cl E m_X13_fresh d [va_rf (some o)] u (c_r K) := by
  replace hd := pw_d1 hd; obtain ⟨e, rfl, hd⟩ := hd
  exact e_X13_fresh _ (s_X13_fresh_0 _ ⟨hd, _, rfl, H _ (cx.new hw _ 1) rfl (pw_new_1 _ _ _)⟩)
theorem ck_ever_ok {o : Nat} {K : Option Nat → pw_W → Prop} (hd : 50 ≤ d) (hw : wf E u) (H : ∀ u', cx E u u' c_no 5 → u'.2.1 = u.2.1 + 1 → u'.1 u.2.1 = some (2012, [va_rf (some o)]) → K (some u.2.1) u') : pw_Cl E m_X13_ever d [va_rf (some o)] u (c_r K) := by
  replace hd := pw_d1 hd; obtain ⟨e, rfl, hd⟩ := hd
  exact e_X13_ever _ (s_X13_ever_0 _ ⟨hd, _, rfl, H _ (cx.new hw _ 1) rfl (pw_new_1 _ _ _)⟩)
/-- a question made: an object that answers so, in every frozen heap that has the new things -/
theorem ck_made_ok {al b cap qa : Nat} {mc : Int32} {q : qQ} {K : Option Nat → pw_W → Prop} (hd : 60 ≤ d) (hD : da_ok Ds) (hS : kS E p th a Ds t L) (hI : kI E p L u) (hth : u.1 th = some (12, [va_rf (some a), va_rf (some al)])) (hl : c_al E u.1 al mc b cap (L.map (fun e => some e.1))) (hq : c_q p qa q) (hok : qok L.length q)
    (H : ∀ (u' : pw_W) (o : Nat), cx E u u' c_no 30 → (∃ n us, u'.1 o = some (2000 + n, us)) → (∀ p', c_sub p p' → kP E p' L → (∀ (q : Nat) (x : pw_O), u'.1 q = some x → u.2.1 ≤ q → p' q = some x) → kH E p' L Ds L.length (16 + 10 * L.length) o (qst Ds q (kphi L))) → K (some o) u') : pw_Cl E m_X13_made d [va_rf (some th), va_rf (some qa)] u (c_r K) := by
  obtain ⟨hP, hA, hx, hHk⟩ := hS
  obtain ⟨ko, wb, h1, h2, h3⟩ := hq
  obtain ⟨k1, k2, k3, k4, k5, k6⟩ := hok
  have hu := hI.2.1
  have hw := hI.1
  replace hd := pw_d1 hd; obtain ⟨e, rfl, hd⟩ := hd
  have hd49 : 49 ≤ e := by omega
  have ent : ∀ z : Int, 0 ≤ z → z < (L.length : Int) → ∃ e0, L[z.toNat]? = some e0 ∧ iI z = iI ((z.toNat : Nat) : Int) ∧ (∃ us, u.1 e0.1 = some (13, us)) ∧ (kphi L).getD z.toNat (fun _ _ => false) = e0.2.2.2.2 ∧ ∀ p', c_sub p p' → kP E p' L → kH E p' L Ds L.length (10 + 10 * L.length) e0.1 e0.2.2.2.2 := by
    intro z z0 z1
    obtain ⟨e0, he0⟩ := dc_get (l := L) (i := z.toNat) (by omega)
    refine ⟨e0, he0, by rw [Int.toNat_of_nonneg z0], ⟨_, hu _ _ (hP.1 e0 (List.mem_of_getElem? he0)).2.2.2.2⟩, kphi_at he0, fun p' hp hP' => ?_⟩
    exact ((hHk _ e0 he0).ext hp (by omega) (by rw [List.take_length]) hP').mono (by omega) (by unfold kdep; omega)
  obtain ⟨us0, hth0⟩ : ∃ us, u.1 th = some (12, us) := ⟨_, hth⟩
  refine e_X13_made _ _ (s_X13_made_0 _ _ ⟨qa, _, _, rfl, hu _ _ h1, rfl, qa, _, _, rfl, hu _ _ h1, rfl, qa, _, _, rfl, hu _ _ h1, rfl, ko, _, rfl, hu _ _ h2, ?_⟩)
  obtain ⟨e', rfl, -⟩ := pw_d1 (show 0 + 1 ≤ e by omega)
  refine e_J3_ordinal _ (s_J3_ordinal_0 _ ⟨ko, 0, _, _, rfl, rfl, hu _ _ h2, _, rfl, ?_⟩)
  have ne : ∀ n : Nat, n ≤ 7 → q.1 ≠ n → ¬ iI (q.1 : Nat) = iI (n : Nat) := fun n hn h => by rw [iI_eqn (by omega) (by omega)]; exact h
  unfold qst at H
  by_cases q0 : q.1 = 0
  · simp only [q0, if_true] at H
    refine ifT (by rw [q0]; rfl) ⟨hd49, _, rfl, H _ u.2.1 ((cx.new hw _ 2).le (by omega)) ⟨8, _, pw_new_1 _ _ _⟩ (fun p' hp hP' hn => ?_)⟩
    exact (kH.phrase (J := 0) hD (hA.mono hp hp) (by obtain ⟨x, hx⟩ := hx; exact ⟨x, hp _ _ hx⟩) (h3.mono hp) k2 (hn _ _ (pw_new_1 u (2008, [va_rf (some th), va_rf (some wb)]) 2) (Nat.le_refl _))).mono (by omega) (by omega)
  rw [if_neg q0] at H
  refine ifF (ne 0 (by omega) q0) ?_
  by_cases q1 : q.1 = 1
  · simp only [q1, if_true] at H
    refine ifT (by rw [q1]; rfl) ⟨hd49, _, rfl, H _ u.2.1 ((cx.new hw _ 3).le (by omega)) ⟨9, _, pw_new_1 _ _ _⟩ (fun p' hp hP' hn => ?_)⟩
    have hlen := k3 q1
    have hss : q.2.1 = [q.2.1.getD 0 [], q.2.1.getD 1 []] := by
      match hq : q.2.1, hlen with
      | [x, y], _ => rfl
    have ha := k4 (Or.inl q1)
    have ea : iI q.2.2.1 = iI ((q.2.2.1.toNat : Nat) : Int) := by rw [Int.toNat_of_nonneg ha.1]
    refine (kH.near (J := 0) hD (hA.mono hp hp) (by obtain ⟨x, hx⟩ := hx; exact ⟨x, hp _ _ hx⟩) (by rw [← hss]; exact h3.mono hp) (by omega) ?_).mono (by omega) (by omega)
    rw [← ea]
    exact hn _ _ (pw_new_1 u (2009, [va_rf (some th), va_rf (some wb), .int (iI q.2.2.1)]) 3) (Nat.le_refl _)
  rw [if_neg q1] at H
  refine ifF (ne 1 (by omega) q1) ?_
  by_cases q2 : q.1 = 2
  · simp only [q2, if_true] at H
    refine ifT (by rw [q2]; rfl) ⟨hd49, _, rfl, H _ u.2.1 ((cx.new hw _ 3).le (by omega)) ⟨10, _, pw_new_1 _ _ _⟩ (fun p' hp hP' hn => ?_)⟩
    exact (kH.many (J := 0) hD (hA.mono hp hp) (by obtain ⟨x, hx⟩ := hx; exact ⟨x, hp _ _ hx⟩) (h3.mono hp) k2 (k4 (Or.inr q2)) (hn _ _ (pw_new_1 u (2010, [va_rf (some th), va_rf (some wb), .int (iI q.2.2.1)]) 3) (Nat.le_refl _))).mono (by omega) (by omega)
  rw [if_neg q2] at H
  refine ifF (ne 2 (by omega) q2) ?_
  obtain ⟨ea, hea, ia, ka, fa, Ha⟩ := ent q.2.2.1 (k5 (by omega)).1 (k5 (by omega)).2
  rw [ia]
  rw [fa] at H
  by_cases q3 : q.1 = 3
  · simp only [q3, if_true] at H
    refine ifT (by rw [q3]; rfl) ⟨th, us0, rfl, hth0, ck_at_ok (by omega) hth hl hea ka (ck_not_ok (by omega) hw (fun u1 c1 n1 l1 => ⟨_, rfl, H u1 u.2.1 (c1.le (by omega)) ⟨11, _, l1⟩ (fun p' hp hP' hn => ?_)⟩))⟩
    exact ((Ha p' hp hP').not (hn _ _ l1 (Nat.le_refl _))).mono (Nat.le_refl _) (by omega)
  rw [if_neg q3] at H
  refine ifF (ne 3 (by omega) q3) ?_
  by_cases q4 : q.1 = 4
  · simp only [q4, if_true] at H
    refine ifT (by rw [q4]; rfl) ⟨th, us0, rfl, hth0, ck_at_ok (by omega) hth hl hea ka (ck_ever_ok (by omega) hw (fun u1 c1 n1 l1 => ⟨_, rfl, H u1 u.2.1 (c1.le (by omega)) ⟨12, _, l1⟩ (fun p' hp hP' hn => ?_)⟩))⟩
    exact ((Ha p' hp hP').ever hD (hn _ _ l1 (Nat.le_refl _))).mono (Nat.le_refl _) (by omega)
  rw [if_neg q4] at H
  refine ifF (ne 4 (by omega) q4) ?_
  by_cases q5 : q.1 = 5
  · simp only [q5, if_true] at H
    refine ifT (by rw [q5]; rfl) ⟨th, us0, rfl, hth0, ck_at_ok (by omega) hth hl hea ka (ck_fresh_ok (by omega) hw (fun u1 c1 n1 l1 => ⟨_, rfl, H u1 u.2.1 (c1.le (by omega)) ⟨13, _, l1⟩ (fun p' hp hP' hn => ?_)⟩))⟩
    exact ((Ha p' hp hP').fresh hD (hn _ _ l1 (Nat.le_refl _))).mono (Nat.le_refl _) (by omega)
  rw [if_neg q5] at H
  refine ifF (ne 5 (by omega) q5) ?_
  obtain ⟨eb, heb, ib, kb, fb, Hb⟩ := ent q.2.2.2 (k6 (by omega)).1 (k6 (by omega)).2
  rw [fb] at H
  by_cases q6 : q.1 = 6
  · simp only [q6, if_true] at H
    refine ifT (by rw [q6]; rfl) ⟨th, us0, rfl, hth0, ck_at_ok (by omega) hth hl hea ka ⟨qa, _, _, rfl, hu _ _ h1, rfl, th, us0, rfl, hth0, ?_⟩⟩
    rw [ib]
    refine ck_at_ok (by omega) hth hl heb kb (ck_both_ok (by omega) hw (fun u1 c1 n1 l1 => ⟨_, rfl, H u1 u.2.1 (c1.le (by omega)) ⟨14, _, l1⟩ (fun p' hp hP' hn => ?_)⟩))
    exact ((Ha p' hp hP').both (Hb p' hp hP') (hn _ _ l1 (Nat.le_refl _))).mono (Nat.le_refl _) (by omega)
  rw [if_neg q6] at H
  refine ifF (ne 6 (by omega) q6) ⟨th, us0, rfl, hth0, ck_at_ok (by omega) hth hl hea ka (ck_not_ok (by omega) hw (fun u1 c1 n1 l1 => ⟨qa, _, _, rfl, c1.at (hu _ _ h1), rfl, th, us0, rfl, c1.at hth0, ?_⟩))⟩
  rw [ib]
  refine ck_at_ok (by omega) (c1.at hth) (hl.mono c1.sub1) heb (by obtain ⟨us, hus⟩ := kb; exact ⟨us, c1.at hus⟩) (ck_not_ok (by omega) c1.ok (fun u2 c2 n2 l2 => ck_both_ok (by omega) c2.ok (fun u3 c3 n3 l3 => ck_not_ok (by omega) c3.ok (fun u4 c4 n4 l4 => ⟨_, rfl, H u4 u3.2.1 ((((c1.tr c2).tr c3).tr c4).le (by omega)) ⟨11, _, l4⟩ (fun p' hp hP' hn => ?_)⟩))))
  have m1 := (Ha p' hp hP').not (hn _ _ (c4.at (c3.at (c2.at l1))) (Nat.le_refl _))
  have m2 := (Hb p' hp hP').not (hn _ _ (c4.at (c3.at l2)) (by omega))
  have m3 := m1.both m2 (hn _ _ (c4.at l3) (by omega))
  exact (m3.not (hn _ _ l4 (by omega))).mono (Nat.le_refl _) (by omega)
end
