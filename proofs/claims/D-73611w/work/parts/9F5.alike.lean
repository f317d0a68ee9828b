set_option maxRecDepth 100000
/-! the component and the twin: their tales stay alike -/
theorem qr.ext {B B' : Nat → Int} {u : Nat} {Q : List qQ} (hu : u < 2) (h : ∀ i, i < 114 → B' i = B i) (hQ : qr B u Q) : qr B' u Q := by
  obtain ⟨h1, h2, h3⟩ := hQ
  have at' : ∀ k i : Nat, k < 8 → i < 7 → q_at B' u k i = q_at B u k i := fun k i hk hi => by unfold q_at; exact h _ (by omega)
  refine ⟨?_, h2, fun k q hk => ?_⟩
  · rw [← h1]
    unfold q_n
    exact h _ (by omega)
  · have k8 : k < 8 := by have := (List.getElem?_eq_some_iff.mp hk).1; omega
    obtain ⟨g1, ⟨g2, g3, g4⟩, g5, g6⟩ := h3 k q hk
    have len : q.2.1.length ≤ 4 := by
      obtain ⟨l1, l2, l3⟩ := g5
      by_cases c0 : q.1 = 0
      · exact (l1 c0).2.2
      by_cases c1 : q.1 = 1
      · rw [g1.2.2.1 c1]; omega
      by_cases c2 : q.1 = 2
      · rw [l2 c2]; omega
      · rw [l3 (by omega)]; omega
    refine ⟨g1, ⟨?_, ?_, ?_⟩, g5, fun i s hs => ?_⟩
    · exact (at' k 0 k8 (by omega)).trans g2
    · exact (at' k 1 k8 (by omega)).trans g3
    · exact (at' k 2 k8 (by omega)).trans g4
    · have := (List.getElem?_eq_some_iff.mp hs).1
      obtain ⟨g7, g8⟩ := g6 i s hs
      exact ⟨(at' k (3 + i) k8 (by omega)).trans g7, g8⟩
theorem hr.ext {B B' : Nat → Int} {u : Nat} {F : List hF} (hu : u < 2) (h : ∀ i, i < 50 → B' i = B i) (hF : hr B u F) : hr B' u F := by
  obtain ⟨h1, h2, h3⟩ := hF
  have at' : ∀ k i : Nat, k < 8 → i < 3 → h_at B' u k i = h_at B u k i := fun k i hk hi => by unfold h_at; exact h _ (by omega)
  refine ⟨?_, h2, fun k q hk => ?_⟩
  · rw [← h1]
    unfold h_n
    exact h _ (by omega)
  · have k8 : k < 8 := by have := (List.getElem?_eq_some_iff.mp hk).1; omega
    obtain ⟨g2, g3, g4⟩ := h3 k q hk
    exact ⟨(at' k 0 k8 (by omega)).trans g2, (at' k 1 k8 (by omega)).trans g3, (at' k 2 k8 (by omega)).trans g4⟩
theorem sr.ext {S S' : tw_S} {V : sS} (h : sr S V) (ho : s_ok V) (hs : sl_eq S S') : sr S' V := by
  obtain ⟨h1, ⟨h2, h3, h4⟩, ⟨h5, h6, h7⟩, h8, h9, h10⟩ := h
  obtain ⟨-, -, -, -, o1, o2, o3⟩ := ho
  refine ⟨fun i hi => (h1 i hi).trans (hs 1 (by omega) (by omega) i hi).symm, ⟨h2.trans (hs 2 (by omega) (by omega) 0 (by decide)).symm, h3.trans (hs 3 (by omega) (by omega) 0 (by decide)).symm, h4.trans (hs 4 (by omega) (by omega) 0 (by decide)).symm⟩, ⟨h5.trans (hs 5 (by omega) (by omega) 0 (by decide)).symm, h6.trans (hs 5 (by omega) (by omega) 1 (by decide)).symm, h7.trans (hs 5 (by omega) (by omega) 2 (by decide)).symm⟩, fun i e he => ?_, fun i e he => ?_, fun i e he => ?_⟩
  · have hi := (List.getElem?_eq_some_iff.mp he).1
    have : tw_ar S' i = tw_ar S i := by
      funext n
      unfold tw_ar
      by_cases c : n < 1526
      · rw [if_pos c, if_pos c]
        exact hs 6 (by omega) (by omega) _ (by show _ < 3052; omega)
      · rw [if_neg c, if_neg c]
    rw [this]
    exact h8 i e he
  · have hi := (List.getElem?_eq_some_iff.mp he).1
    exact (h9 i e he).ext (by omega) (fun n hn => hs 7 (by omega) (by omega) n hn)
  · have hi := (List.getElem?_eq_some_iff.mp he).1
    exact (h10 i e he).ext (by omega) (fun n hn => hs 8 (by omega) (by omega) n hn)
/-- with what is kept -/
def sR (S : tw_S) (V : sS) (kp : sK) : Prop := (sr S V ∧ s_ok V) ∧ ∀ k : Nat, k < 3 → (kp k = none → S.2.2 16 k = 0) ∧ ∀ y, kp k = some y → S.2.2 16 k ≠ 0 ∧ sr (sl S (k + 1)) y.2.2 ∧ s_ok y.2.2
section
variable {S S' : tw_S} {V V' : sS} {kp : sK}
theorem sl_eq.refl (S : tw_S) : sl_eq S S := fun _ _ _ _ _ => rfl
theorem sl_eq.trans {S S' S'' : tw_S} (h : sl_eq S S') (h' : sl_eq S' S'') : sl_eq S S'' := fun q h1 h2 i hi => (h' q h1 h2 i hi).trans (h q h1 h2 i hi)
theorem sR.same (h : sR S V kp) (hs : tw_same S S') : sR S' V kp := by
  have ee : ∀ q : Nat, 1 ≤ q → q ≤ 8 → S'.2.2 q = S.2.2 q := fun q h1 h2 => hs q (by rw [Bool.or_eq_true]; exact Or.inl (decide_eq_true h2))
  refine ⟨⟨h.1.1.ext h.1.2 (fun q h1 h2 i _ => by rw [ee q h1 h2]), h.1.2⟩, fun k hk => ?_⟩
  obtain ⟨g1, g2⟩ := h.2 k hk
  rw [hs 16 rfl]
  exact ⟨g1, fun y hy => ⟨(g2 y hy).1, (g2 y hy).2.1.ext (g2 y hy).2.2 (fun q h1 h2 i _ => by show S'.2.2 q _ = S.2.2 q _; rw [ee q h1 h2]), (g2 y hy).2.2⟩⟩
/-- the current state alone changed -/
theorem sR.upd (h : sR S V kp) (hn : sr S' V') (ho : s_ok V') (h16 : S'.2.2 16 = S.2.2 16) (hk : ∀ k, k < 3 → sl_eq (sl S (k + 1)) (sl S' (k + 1))) : sR S' V' kp := by
  refine ⟨⟨hn, ho⟩, fun k hk3 => ?_⟩
  obtain ⟨g1, g2⟩ := h.2 k hk3
  rw [h16]
  exact ⟨g1, fun y hy => ⟨(g2 y hy).1, (g2 y hy).2.1.ext (g2 y hy).2.2 (hk k hk3), (g2 y hy).2.2⟩⟩
theorem tw_saN {k i q n : Nat} {x : Int} (h : ¬ (q = k ∧ n = i)) : (tw_sa S k i x).2.2 q n = S.2.2 q n := if_neg h
theorem fd_put_ne {q n : Nat} {x : Int} (h : ¬ (q = 2 ∧ n = 0)) (h' : ¬ (q = 1 ∧ n = Int.toNat (S.2.2 2 0))) : (fd_put S x).2.2 q n = S.2.2 q n := (tw_saN h).trans (tw_saN h')
theorem fd_puts_16 (B : Nat → Int) : ∀ n, (fd_puts S B n).2.2 16 = S.2.2 16 ∧ (fd_puts S B n).2.2 2 0 = S.2.2 2 0 + n := by
  intro n
  induction n with
  | zero => exact ⟨rfl, by show S.2.2 2 0 = _; simp⟩
  | succ n ih =>
    refine ⟨?_, ?_⟩
    · rw [← ih.1]
      funext i
      exact fd_put_ne (S := fd_puts S B n) (fun e => absurd e.1 (by decide)) (fun e => absurd e.1 (by decide))
    · show (fd_puts S B n).2.2 2 0 + 1 = _
      rw [ih.2]
      omega
theorem fd_puts_sl (B : Nat → Int) (h0 : 0 ≤ S.2.2 2 0) (k : Nat) : ∀ n : Nat, S.2.2 2 0 + n ≤ 600 → sl_eq (sl S (k + 1)) (sl (fd_puts S B n) (k + 1)) := by
  intro n
  induction n with
  | zero => intro _; exact sl_eq.refl _
  | succ n ih =>
    intro hn
    refine (ih (by omega)).trans (fun q h1 h2 i hi => ?_)
    have hz := (fd_puts_16 (S := S) B n).2
    refine fd_put_ne (S := fd_puts S B n) (q := q) (n := sl_w q * (k + 1) + i) ?_ ?_
    · rintro ⟨rfl, e⟩
      have e : 1 * (k + 1) + i = 0 := e
      omega
    · rintro ⟨rfl, e⟩
      rw [hz] at e
      have e : 600 * (k + 1) + i = Int.toNat (S.2.2 2 0 + (n : Int)) := e
      omega
theorem sR.feed (h : sR S V kp) (h0 : 0 ≤ S.2.2 2 0) {a b c g f : Int} (hs : S.2.2 2 0 + 20 ≤ 600) : sR (fd_four (fd_four (fd_four (fd_four (fd_four (tw_sf S 0 0) a) b) c) g) f) (s_puts V (fdb a b c g f) 20) kp := by
  rw [← fd_puts_20]
  have hv : V.2.1.1 = S.2.2 2 0 := h.1.1.2.1.1
  have h1 : sR (tw_sf S 0 0) V kp := h.same (tw_same.sf S 0 0)
  exact h1.upd (h1.1.1.puts (B := fdb a b c g f) h0 20).1 (h.1.2.puts (B := fdb a b c g f) 20 (by rw [hv]; exact hs) (fun n => fdb_iB a b c g f n)) (fd_puts_16 (S := tw_sf S 0 0) (fdb a b c g f) 20).1 (fun k _ => fd_puts_sl (S := tw_sf S 0 0) (fdb a b c g f) h0 k 20 hs)
theorem sR.end (h : sR S V kp) {n : Int} (hn : 0 ≤ n ∧ n ≤ V.2.1.1) : sR (tw_sa (tw_sf S 0 0) 2 0 n) (V.1, (n, V.2.1.2), V.2.2) kp := by
  obtain ⟨⟨h1, ⟨h2, h3, h4⟩, h5⟩, ho⟩ := id h.1
  obtain ⟨o1, o2, o3⟩ := ho
  refine h.upd ⟨fun i hi => ?_, ⟨rfl, h3, h4⟩, h5⟩ ⟨o1, ⟨hn.1, Int.le_trans hn.2 o2.2⟩, o3⟩ ?_ (fun k _ q h1 h2 i hi => ?_)
  · exact h1 i hi
  · funext i
    exact tw_saN (S := tw_sf S 0 0) (fun e => absurd e.1 (by decide))
  · refine tw_saN (S := tw_sf S 0 0) (q := q) (n := sl_w q * (k + 1) + i) ?_
    rintro ⟨rfl, e⟩
    have e : 1 * (k + 1) + i = 0 := e
    omega
theorem sR.image (h : sR S V kp) {k s' : Nat} {x' : sX} (hk : k < 3) : sR (tw_sa (tw_cpA (tw_sf S 0 0) 0 (k + 1)) 16 k 1) V (fun j => if j = k then some (s', x', V) else kp j) := by
  have h0 : sR (tw_sf S 0 0) V kp := h.same (tw_same.sf S 0 0)
  obtain ⟨c1, c2⟩ := tw_cpA_sl (tw_sf S 0 0) 0 (k + 1)
  have sa : ∀ (T : tw_S) (j : Nat), sl_eq (sl T j) (sl (tw_sa T 16 k 1) j) := fun T j q h1 h2 i hi => by
    refine tw_saN (S := T) (q := q) (n := sl_w q * j + i) ?_
    rintro ⟨rfl, -⟩
    omega
  have z0 := sl_0 (tw_sf S 0 0)
  have z1 := sl_0 (tw_sa (tw_cpA (tw_sf S 0 0) 0 (k + 1)) 16 k 1)
  refine ⟨⟨h0.1.1.ext h.1.2 (((z0.1.trans (c2 0 (by omega))).trans (sa _ 0)).trans z1.2), h.1.2⟩, fun j hj => ⟨fun e => ?_, fun y hy => ?_⟩⟩
  · have e : (if j = k then some (s', x', V) else kp j) = none := e
    by_cases c : j = k
    · rw [if_pos c] at e; cases e
    · rw [if_neg c] at e
      show (if (16 : Nat) = 16 ∧ j = k then (1 : Int) else (tw_cpA (tw_sf S 0 0) 0 (k + 1)).2.2 16 j) = 0
      rw [if_neg (fun e => c e.2), tw_cpA_16]
      exact (h0.2 j hj).1 e
  · have hy : (if j = k then some (s', x', V) else kp j) = some y := hy
    show (if (16 : Nat) = 16 ∧ j = k then (1 : Int) else (tw_cpA (tw_sf S 0 0) 0 (k + 1)).2.2 16 j) ≠ 0 ∧ _
    by_cases c : j = k
    · rw [if_pos c] at hy
      cases hy
      subst c
      rw [if_pos ⟨rfl, rfl⟩]
      exact ⟨by decide, h0.1.1.ext h.1.2 ((z0.1.trans c1).trans (sa _ _)), h.1.2⟩
    · rw [if_neg c] at hy
      rw [if_neg (fun e => c e.2), tw_cpA_16]
      obtain ⟨g1, g2, g3⟩ := (h0.2 j hj).2 y hy
      exact ⟨g1, g2.ext g3 ((c2 (j + 1) (by omega)).trans (sa _ _)), g3⟩
theorem sR.again (h : sR S V kp) {k : Nat} {y : Nat × sX × sS} (hk : k < 3) (hy : kp k = some y) : sR (tw_cpA (tw_sf S 0 0) (k + 1) 0) y.2.2 kp := by
  have h0 : sR (tw_sf S 0 0) V kp := h.same (tw_same.sf S 0 0)
  obtain ⟨c1, c2⟩ := tw_cpA_sl (tw_sf S 0 0) (k + 1) 0
  have z1 := sl_0 (tw_cpA (tw_sf S 0 0) (k + 1) 0)
  obtain ⟨g1, g2, g3⟩ := (h0.2 k hk).2 y hy
  refine ⟨⟨g2.ext g3 (c1.trans z1.2), g3⟩, fun j hj => ?_⟩
  rw [tw_cpA_16]
  obtain ⟨f1, f2⟩ := h0.2 j hj
  exact ⟨f1, fun y' hy' => ⟨(f2 y' hy').1, (f2 y' hy').2.1.ext (f2 y' hy').2.2 (c2 (j + 1) (by omega)), (f2 y' hy').2.2⟩⟩
theorem sR_0 : sR S_0 s_V0 (fun _ => none) := by
  refine ⟨⟨⟨fun i hi => ?_, ⟨rfl, rfl, rfl⟩, ⟨rfl, rfl, rfl⟩, (fun i e he => by cases he), (fun i e he => by cases he), (fun i e he => by cases he)⟩, s_V0_ok⟩, fun k hk => ⟨fun _ => ?_, (fun y hy => by cases hy)⟩⟩
  · show (0 : Int) = if (1 : Nat) = 4 ∧ i = 0 then -1 else 0
    rw [if_neg (fun e => absurd e.1 (by decide))]
  · show (if (16 : Nat) = 4 ∧ k = 0 then (-1 : Int) else 0) = 0
    rw [if_neg (fun e => absurd e.1 (by decide))]
end
