set_option maxRecDepth 100000
/-! the component: the questions are made one by one -/
theorem c_canQ : pw_can 10 "VersionSearch$Question" := Or.inl ⟨_, rfl, by decide, Or.inl rfl⟩
def qphi (Ds : List dc) (Q : List qQ) : List (Nat → Nat → Bool) := Q.foldl (fun φs q => φs ++ [qst Ds q φs]) []
theorem qphi_s (Ds : List dc) (Q : List qQ) (q : qQ) : qphi Ds (Q ++ [q]) = qphi Ds Q ++ [qst Ds q (qphi Ds Q)] := by
  unfold qphi
  rw [List.foldl_append]
  rfl
theorem take_s {α : Type} {l : List α} {k : Nat} {x : α} (h : l[k]? = some x) : l.take (k + 1) = l.take k ++ [x] := by
  rw [List.take_succ, h]
  rfl
theorem kP.no {E : pw_E} {p : pw_H} {L : List kE} (hP : kP E p L) {q : Nat} {o : pw_O} (hq : p q = some o) : ¬ k_F L q := by
  rintro ⟨f, hf, hfq⟩
  obtain ⟨-, -, n1, n2, -⟩ := hP.1 f hf
  rcases hfq with rfl | rfl
  · rw [n1] at hq; cases hq
  · rw [n2] at hq; cases hq
theorem kI.cx {E : pw_E} {p : pw_H} {L : List kE} {u u' : pw_W} {F : Nat → Prop} {c : Nat} (hI : kI E p L u) (k : cx E u u' F c) (h1 : ∀ (q : Nat) (o : pw_O), p q = some o → ¬ F q) (h2 : ∀ q, k_F L q → ¬ F q) : kI E p L u' := by
  refine ⟨k.ok, fun q o hq => k.keep (hI.2.1 q o hq) (h1 q o hq), fun e he => ?_⟩
  obtain ⟨X, Y, x1, x2, x3⟩ := hI.2.2 e he
  exact ⟨X, Y, k.keep x1 (h2 _ ⟨e, he, Or.inl rfl⟩), k.keep x2 (h2 _ ⟨e, he, Or.inr rfl⟩), x3⟩
theorem kI.lt {E : pw_E} {p : pw_H} {L : List kE} {u : pw_W} (hI : kI E p L u) {q : Nat} (h : k_F L q) : q < u.2.1 := by
  obtain ⟨e, he, hq⟩ := h
  obtain ⟨X, Y, x1, x2, x3⟩ := hI.2.2 e he
  rcases hq with rfl | rfl
  · exact hI.1.lt x1
  · exact hI.1.lt x2
theorem k_F_app {L : List kE} {e : kE} {q : Nat} (h : k_F (L ++ [e]) q) : k_F L q ∨ q = e.2.2.1 ∨ q = e.2.2.2.1 := by
  obtain ⟨f, hf, hq⟩ := h
  rcases List.mem_append.mp hf with hf | hf
  · exact Or.inl ⟨f, hf, hq⟩
  · rw [List.mem_singleton] at hf
    subst hf
    exact Or.inr hq
theorem app_at {α : Type} {l : List α} {x y : α} {i : Nat} (h : (l ++ [x])[i]? = some y) : (i < l.length ∧ l[i]? = some y) ∨ (i = l.length ∧ y = x) := by
  by_cases q : i < l.length
  · rw [List.getElem?_append_left q] at h
    exact Or.inl ⟨q, h⟩
  · rw [List.getElem?_append_right (by omega)] at h
    by_cases z : i = l.length
    · subst z
      rw [Nat.sub_self] at h
      cases h
      exact Or.inr ⟨rfl, rfl⟩
    · rw [List.getElem?_eq_none (by simp; omega)] at h
      cases h
theorem kS.add {E : pw_E} {p M : pw_H} {L : List kE} {Ds : List dc} {th a n0 n1 kk r o : Nat} {t : Int} {u : pw_W} {X : Nat → Prop} {φ : Nat → Nat → Bool} (hD : da_ok Ds) (hS : kS E p th a Ds t L) (hI : kI E p L u)
    (hp : ∀ (q : Nat) (x : pw_O), p q = some x → q < n0 ∧ ¬ X q) (hF : ∀ q, k_F L q → q < n0) (hX : ∀ q, X q → q < n0) (hkk : n0 ≤ kk) (hr : n0 ≤ r) (hb : pw_base E ≤ r) (hne : kk ≠ r ∧ kk ≠ r + 1)
    (h1 : u.1 kk = some (13, [va_rf (some o), va_rf (some r), va_rf (some (r + 1))])) (h2 : u.1 r = some (k_ar (fun _ => 0))) (h3 : u.1 (r + 1) = some (k_ar (fun _ => 0)))
    (hM : ∀ (q : Nat) (x : pw_O), M q = some x → n1 ≤ q → u.1 q = some x ∧ n0 ≤ q ∧ q ≠ r ∧ q ≠ r + 1)
    (hm : ∀ p', c_sub p p' → kP E p' L → (∀ (q : Nat) (x : pw_O), M q = some x → n1 ≤ q → p' q = some x) → kH E p' L Ds L.length (16 + 10 * L.length) o φ) :
    ∃ p', c_sub p p' ∧ (∀ (q : Nat) (x : pw_O), p' q = some x → ¬ X q) ∧ kS E p' th a Ds t (L ++ [(kk, o, r, r + 1, φ)]) ∧ kI E p' (L ++ [(kk, o, r, r + 1, φ)]) u := by
  obtain ⟨p', hp'⟩ := rs_ex u.1 (fun q => k_F (L ++ [(kk, o, r, r + 1, φ)]) q ∨ X q)
  have fin : ∀ (q : Nat) (x : pw_O), u.1 q = some x → ¬ k_F L q → q ≠ r → q ≠ r + 1 → ¬ X q → p' q = some x := by
    intro q x g1 g2 g3 g4 g5
    refine (hp' q x).mpr ⟨g1, ?_⟩
    rintro (z | z)
    · rcases k_F_app z with y | y | y
      · exact g2 y
      · exact g3 y
      · exact g4 y
    · exact g5 z
  have hnF : ∀ q, k_F (L ++ [(kk, o, r, r + 1, φ)]) q → p' q = none := by
    intro q hq
    cases hz : p' q with
    | none => rfl
    | some x => exact absurd (Or.inl hq) ((hp' q x).mp hz).2
  have hs : c_sub p p' := by
    intro q x hq
    have h0 := hp q x hq
    exact fin q x (hI.2.1 q x hq) (hS.1.no hq) (by omega) (by omega) h0.2
  have mem : ∀ e ∈ L, e ∈ L ++ [(kk, o, r, r + 1, φ)] := fun e he => List.mem_append_left _ he
  have mem1 : (kk, o, r, r + 1, φ) ∈ L ++ [(kk, o, r, r + 1, φ)] := by simp
  have hkkp : p' kk = some (13, [va_rf (some o), va_rf (some r), va_rf (some (r + 1))]) := fin kk _ h1 (fun z => by have := hF _ z; omega) hne.1 hne.2 (fun z => by have := hX _ z; omega)
  have lo : ∀ e ∈ L, e.2.2.1 < n0 ∧ e.2.2.2.1 < n0 := fun e he => ⟨hF _ ⟨e, he, Or.inl rfl⟩, hF _ ⟨e, he, Or.inr rfl⟩⟩
  have hP : kP E p' L := by
    refine ⟨fun e he => ?_, hS.1.2⟩
    obtain ⟨b1, b2, m1, m2, m3⟩ := hS.1.1 e he
    exact ⟨b1, b2, hnF _ ⟨e, mem e he, Or.inl rfl⟩, hnF _ ⟨e, mem e he, Or.inr rfl⟩, hs _ _ m3⟩
  have hP' : kP E p' (L ++ [(kk, o, r, r + 1, φ)]) := by
    refine ⟨fun e he => ?_, fun i j e f hi hj => ?_⟩
    · rcases List.mem_append.mp he with he | he
      · exact hP.1 e he
      · rw [List.mem_singleton] at he
        subst he
        exact ⟨hb, Nat.le_succ_of_le hb, hnF _ ⟨_, mem1, Or.inl rfl⟩, hnF _ ⟨_, mem1, Or.inr rfl⟩, hkkp⟩
    · rcases app_at hi with ⟨i1, i2⟩ | ⟨i1, i2⟩
      · have l1 := lo e (List.mem_of_getElem? i2)
        rcases app_at hj with ⟨j1, j2⟩ | ⟨j1, j2⟩
        · exact hS.1.2 i j e f i2 j2
        · subst j2
          refine ⟨?_, fun _ => ⟨?_, ?_⟩⟩
          · show e.2.2.1 ≠ r + 1; omega
          · show e.2.2.1 ≠ r; omega
          · show e.2.2.2.1 ≠ r + 1; omega
      · subst i2
        rcases app_at hj with ⟨j1, j2⟩ | ⟨j1, j2⟩
        · have l1 := lo f (List.mem_of_getElem? j2)
          refine ⟨?_, fun _ => ⟨?_, ?_⟩⟩
          · show r ≠ f.2.2.2.1; omega
          · show r ≠ f.2.2.1; omega
          · show r + 1 ≠ f.2.2.2.1; omega
        · subst j2
          refine ⟨?_, fun z => absurd (i1.trans j1.symm) z⟩
          show r ≠ r + 1
          omega
  have tk : L = (L ++ [(kk, o, r, r + 1, φ)]).take L.length := by rw [List.take_left]
  refine ⟨p', hs, fun q x hq hx => ((hp' q x).mp hq).2 (Or.inr hx), ⟨hP', hS.2.1.mono hs hs, ?_, fun j e hj => ?_⟩, hI.1, fun q x hq => ((hp' q x).mp hq).1, fun e he => ?_⟩
  · obtain ⟨x, hx⟩ := hS.2.2.1
    exact ⟨x, hs _ _ hx⟩
  · rcases app_at hj with ⟨i1, i2⟩ | ⟨i1, i2⟩
    · exact (hS.2.2.2 j e i2).ext hs (by omega) tk hP'
    · subst i2
      subst i1
      have hm' := hm p' hs hP (fun q x hq hn => by
        obtain ⟨g1, g2, g3, g4⟩ := hM q x hq hn
        exact fin q x g1 (fun z => by have := hF _ z; omega) g3 g4 (fun z => by have := hX _ z; omega))
      exact (kH.kept hP' hD hj (hm'.ext (c_sub.refl _) (Nat.le_refl _) tk hP')).mono (Nat.le_refl _) (by unfold kdep; omega)
  · rcases List.mem_append.mp he with he | he
    · exact hI.2.2 e he
    · rw [List.mem_singleton] at he
      subst he
      exact ⟨_, _, h2, h3, fun i hi => ⟨by decide, by decide, fun v hv => ⟨fun z => (by rw [s_has_0 hv] at z; cases z), fun _ => s_has_0 hv⟩⟩⟩
section
variable {E : pw_E} {d : Nat} {u : pw_W} {Ds : List dc} {th a : Nat} {t : Int}
theorem ck_keep_ok {k o : Nat} {x0 x1 x2 : Value} {K : pw_W → Prop} (hd : 2 ≤ d) (hw : wf E u) (hk : u.1 k = some (13, [x0, x1, x2])) (hb : pw_base E ≤ k)
    (H : ∀ u', cx E u u' (fun q => q = k) 16 → u'.2.1 = u.2.1 + 2 → u'.1 k = some (13, [va_rf (some o), va_rf (some u.2.1), va_rf (some (u.2.1 + 1))]) → u'.1 u.2.1 = some (k_ar (fun _ => 0)) → u'.1 (u.2.1 + 1) = some (k_ar (fun _ => 0)) → K u') : pw_Cl E m_X14_init d [va_rf (some k), va_rf (some o)] u (c_v K) := by
  replace hd := pw_d1 hd; obtain ⟨e, rfl, hd⟩ := hd
  have hlt := hw.lt hk
  have c1 : cx E u (n_ar u 4 (fun _ => 0)) (fun q => q = k) 8 := (n_ar_cx hw 4 _).no
  have l1 : (n_ar u 4 (fun _ => 0)).1 k = some (13, [x0, x1, x2]) := (n_ar_cx hw 4 (fun _ => 0)).at hk
  have c2 : cx E (n_ar u 4 (fun _ => 0)) (pw_up (n_ar u 4 (fun _ => 0)) k (13, [x0, va_rf (some u.2.1), x2])) (fun q => q = k) 0 := cx.up c1.ok _ l1 hb rfl
  have c3 : cx E (pw_up (n_ar u 4 (fun _ => 0)) k (13, [x0, va_rf (some u.2.1), x2])) (n_ar (pw_up (n_ar u 4 (fun _ => 0)) k (13, [x0, va_rf (some u.2.1), x2])) 4 (fun _ => 0)) (fun q => q = k) 8 := (n_ar_cx c2.ok 4 _).no
  have l3 : (n_ar (pw_up (n_ar u 4 (fun _ => 0)) k (13, [x0, va_rf (some u.2.1), x2])) 4 (fun _ => 0)).1 k = some (13, [x0, va_rf (some u.2.1), x2]) := (n_ar_cx c2.ok 4 (fun _ => 0)).at (pw_up_1 _ _ _)
  have c4 : cx E _ (pw_up (n_ar (pw_up (n_ar u 4 (fun _ => 0)) k (13, [x0, va_rf (some u.2.1), x2])) 4 (fun _ => 0)) k (13, [x0, va_rf (some u.2.1), va_rf (some (u.2.1 + 1))])) (fun q => q = k) 0 := cx.up c3.ok _ l3 hb rfl
  have c5 : cx E _ (pw_up (pw_up (n_ar (pw_up (n_ar u 4 (fun _ => 0)) k (13, [x0, va_rf (some u.2.1), x2])) 4 (fun _ => 0)) k (13, [x0, va_rf (some u.2.1), va_rf (some (u.2.1 + 1))])) k (13, [va_rf (some o), va_rf (some u.2.1), va_rf (some (u.2.1 + 1))])) (fun q => q = k) 0 := cx.up c4.ok _ (pw_up_1 _ _ _) hb rfl
  have m1 : (n_ar u 4 (fun _ => 0)).1 u.2.1 = some (k_ar (fun _ => 0)) := pw_new_1 _ _ _
  have m3 : (n_ar (pw_up (n_ar u 4 (fun _ => 0)) k (13, [x0, va_rf (some u.2.1), x2])) 4 (fun _ => 0)).1 (u.2.1 + 1) = some (k_ar (fun _ => 0)) := pw_new_1 _ _ _
  have m13 : (n_ar (pw_up (n_ar u 4 (fun _ => 0)) k (13, [x0, va_rf (some u.2.1), x2])) 4 (fun _ => 0)).1 u.2.1 = some (k_ar (fun _ => 0)) := (n_ar_cx c2.ok 4 (fun _ => 0)).at (by rw [pw_up_ne (by omega)]; exact m1)
  refine e_X14_init _ _ (s_X14_init_0 _ _ ⟨by decide, by decide, ?_⟩)
  refine ⟨k, _, rfl, l1, hb, ⟨by decide, by decide, ⟨k, _, rfl, l3, hb, ⟨k, _, rfl, pw_up_1 _ _ _, hb, ?_⟩⟩⟩⟩
  have hn : ∀ w : pw_W, pw_new w (1000 + 0, List.replicate (Int32.toNatClampNeg 4) (Value.int 0)) (Int32.toNatClampNeg 4) = n_ar w 4 (fun _ => 0) := fun w => n_ar_0 4
  rw [hn u, hn]
  refine ⟨rfl, H _ (((((c1.tr c2).tr c3).tr c4).tr c5).le (by omega)) rfl (pw_up_1 _ _ _) ?_ ?_⟩
  · rw [pw_up_ne (by omega), pw_up_ne (by omega)]
    exact m13
  · rw [pw_up_ne (by omega), pw_up_ne (by omega)]
    exact m3
end
