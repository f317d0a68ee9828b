set_option maxRecDepth 100000
/-! the component: TreeMap: keys, what is found -/
/-- a key: a word by its letters filled up, or a small number -/
def c_key (τ : Bool) (h : pw_H) (c : Nat) (κ : Int) : Prop := match τ with
  | true => c_box h c κ ∧ 0 ≤ κ ∧ κ ≤ 1000
  | false => ∃ s : List Int, c_str h c s ∧ 1 ≤ s.length ∧ s.length ≤ 4 ∧ κ = s_wide 4 (s_code s)
theorem c_key.mono {τ : Bool} {p h : pw_H} {c : Nat} {κ : Int} (k : c_key τ p c κ) (z : c_sub p h) : c_key τ h c κ := by
  cases τ with
  | true => exact ⟨z _ _ k.1, k.2⟩
  | false =>
    obtain ⟨s, h1, h2⟩ := k
    exact ⟨s, h1.mono z, h2⟩
theorem c_key.keep {E : pw_E} {w w' : pw_W} {F : Nat → Prop} {n : Nat} {τ : Bool} {c : Nat} {κ : Int} (k : c_key τ w.1 c κ) (z : cx E w w' F n) (hF : ∀ (a : Nat) (o : pw_O), w.1 a = some o → F a → o.1 ≠ 21 ∧ o.1 ≠ 28 ∧ o.1 ≠ 1001) : c_key τ w'.1 c κ := by
  cases τ with
  | true => exact ⟨z.keep k.1 (fun f => (hF _ _ k.1 f).2.1 rfl), k.2⟩
  | false =>
    obtain ⟨s, ⟨b, v2, v3, h1, h2, h3⟩, h4⟩ := k
    exact ⟨s, ⟨b, v2, v3, z.keep h1 (fun f => (hF _ _ h1 f).1 rfl), z.keep h2 (fun f => (hF _ _ h2 f).2.2 rfl), h3⟩, h4⟩
theorem s_wide_e {x : Int} (h : 1 ≤ x ∧ x < 531441) : s_wide 4 x = if 19683 ≤ x then x else if 729 ≤ x then x * 27 else if 27 ≤ x then x * 729 else x * 19683 := by
  have e0 : ∀ y, s_wide 0 y = y := fun y => rfl
  have e : ∀ f y, s_wide (f + 1) y = if 19683 ≤ y then y else s_wide f (y * 27) := fun f y => rfl
  rw [e, e, e, e, e0]
  repeat' split
  all_goals omega
/-- the order of words is that of their letters filled up -/
theorem s_cmp_wide {s t : List Int} (hs : ∀ c ∈ s, 97 ≤ c ∧ c ≤ 122) (ht : ∀ c ∈ t, 97 ≤ c ∧ c ≤ 122) (h1 : 1 ≤ s.length) (h2 : s.length ≤ 4) (h3 : 1 ≤ t.length) (h4 : t.length ≤ 4) :
    rI (s_cmp s t) ∧ (s_cmp s t < 0 ↔ s_wide 4 (s_code s) < s_wide 4 (s_code t)) ∧ (0 < s_cmp s t ↔ s_wide 4 (s_code t) < s_wide 4 (s_code s)) := by
  have shape : ∀ l : List Int, (∀ c ∈ l, 97 ≤ c ∧ c ≤ 122) → 1 ≤ l.length → l.length ≤ 4 → ∃ a b c d : Int, (97 ≤ a ∧ a ≤ 122) ∧ (l = [a] ∧ b = 96 ∧ c = 96 ∧ d = 96 ∨ l = [a, b] ∧ (97 ≤ b ∧ b ≤ 122) ∧ c = 96 ∧ d = 96 ∨ l = [a, b, c] ∧ (97 ≤ b ∧ b ≤ 122) ∧ (97 ≤ c ∧ c ≤ 122) ∧ d = 96 ∨ l = [a, b, c, d] ∧ (97 ≤ b ∧ b ≤ 122) ∧ (97 ≤ c ∧ c ≤ 122) ∧ (97 ≤ d ∧ d ≤ 122)) ∧ s_wide 4 (s_code l) = (((a - 96) * 27 + (b - 96)) * 27 + (c - 96)) * 27 + (d - 96) := by
    intro l hl l1 l2
    match l, hl, l1, l2 with
    | [a], hl, _, _ =>
      have ha := hl a (by simp)
      refine ⟨a, 96, 96, 96, ha, Or.inl ⟨rfl, rfl, rfl, rfl⟩, ?_⟩
      have e : s_code [a] = a - 96 := by show 27 * 0 + a - 97 + 1 = _; omega
      rw [e, s_wide_e ⟨by omega, by omega⟩]
      rw [if_neg (by omega), if_neg (by omega), if_neg (by omega)]
      omega
    | [a, b], hl, _, _ =>
      have ha := hl a (by simp)
      have hb := hl b (by simp)
      refine ⟨a, b, 96, 96, ha, Or.inr (Or.inl ⟨rfl, hb, rfl, rfl⟩), ?_⟩
      have e : s_code [a, b] = 27 * (a - 96) + (b - 96) := by show 27 * (27 * 0 + a - 97 + 1) + b - 97 + 1 = _; omega
      rw [e, s_wide_e ⟨by omega, by omega⟩]
      rw [if_neg (by omega), if_neg (by omega), if_pos (by omega)]
      omega
    | [a, b, c], hl, _, _ =>
      have ha := hl a (by simp)
      have hb := hl b (by simp)
      have hc := hl c (by simp)
      refine ⟨a, b, c, 96, ha, Or.inr (Or.inr (Or.inl ⟨rfl, hb, hc, rfl⟩)), ?_⟩
      have e : s_code [a, b, c] = 27 * (27 * (a - 96) + (b - 96)) + (c - 96) := by show 27 * (27 * (27 * 0 + a - 97 + 1) + b - 97 + 1) + c - 97 + 1 = _; omega
      rw [e, s_wide_e ⟨by omega, by omega⟩]
      rw [if_neg (by omega), if_pos (by omega)]
      omega
    | [a, b, c, d], hl, _, _ =>
      have ha := hl a (by simp)
      have hb := hl b (by simp)
      have hc := hl c (by simp)
      have hd := hl d (by simp)
      refine ⟨a, b, c, d, ha, Or.inr (Or.inr (Or.inr ⟨rfl, hb, hc, hd⟩)), ?_⟩
      have e : s_code [a, b, c, d] = 27 * (27 * (27 * (a - 96) + (b - 96)) + (c - 96)) + (d - 96) := by show 27 * (27 * (27 * (27 * 0 + a - 97 + 1) + b - 97 + 1) + c - 97 + 1) + d - 97 + 1 = _; omega
      rw [e, s_wide_e ⟨by omega, by omega⟩]
      rw [if_pos (by omega)]
      omega
  obtain ⟨a, b, c, d, ha, hs', es⟩ := shape s hs h1 h2
  obtain ⟨a', b', c', d', ha', ht', et⟩ := shape t ht h3 h4
  rw [es, et]
  rcases hs' with ⟨rfl, q1, q2, q3⟩ | ⟨rfl, q1, q2, q3⟩ | ⟨rfl, q1, q2, q3⟩ | ⟨rfl, q1, q2, q3⟩ <;> rcases ht' with ⟨rfl, r1, r2, r3⟩ | ⟨rfl, r1, r2, r3⟩ | ⟨rfl, r1, r2, r3⟩ | ⟨rfl, r1, r2, r3⟩ <;> simp only [s_cmp, List.length_cons, List.length_nil] <;> repeat' split
  all_goals (refine ⟨⟨?_, ?_⟩, ?_, ?_⟩ <;> omega)
def c_tm (E : pw_E) (τ : Bool) (z p : pw_H) (m : Nat) (mc : Int32) (ks : Option Nat) (xs : List tE) : Prop :=
  (∃ (x0 x1 x6 x8 : Value) (S : tS), c_tL E p m (x0, x1, .int (iI xs.length), .int mc, x6, va_rf ks, x8) xs S ∧ t_I xs S) ∧ (∀ e ∈ xs, c_key τ z e.2.1 e.2.2.1) ∧ (∀ (i j : Nat) (e f : tE), i < j → xs[i]? = some e → xs[j]? = some f → e.2.2.1 < f.2.2.1) ∧ xs.length ≤ 100000
theorem c_tm.keep {E : pw_E} {τ : Bool} {w w' : pw_W} {F : Nat → Prop} {n m : Nat} {mc : Int32} {ks : Option Nat} {xs : List tE} (h : c_tm E τ w.1 w.1 m mc ks xs) (z : cx E w w' F n) (hm : ¬ F m) (hn : ∀ e ∈ xs, ¬ F e.1) (hF : ∀ (a : Nat) (o : pw_O), w.1 a = some o → F a → o.1 ≠ 21 ∧ o.1 ≠ 28 ∧ o.1 ≠ 1001) : c_tm E τ w'.1 w'.1 m mc ks xs := by
  obtain ⟨⟨x0, x1, x6, x8, S, ⟨h1, h2, h3⟩, h4⟩, h5, h6, h7⟩ := h
  exact ⟨⟨x0, x1, x6, x8, S, ⟨z.keep h1 hm, h2, fun e he => ⟨(h3 e he).1, z.keep (h3 e he).2 (hn e he)⟩⟩, h4⟩, fun e he => (h5 e he).keep z hF, h6, h7⟩
theorem c_tm.kind {E : pw_E} {τ : Bool} {w : pw_W} {m : Nat} {mc : Int32} {ks : Option Nat} {xs : List tE} (h : c_tm E τ w.1 w.1 m mc ks xs) (a : Nat) (o : pw_O) (ha : w.1 a = some o) (hF : t_F m xs a) : o.1 = 22 ∨ o.1 = 23 := by
  obtain ⟨⟨x0, x1, x6, x8, S, ⟨h1, h2, h3⟩, h4⟩, -⟩ := h
  rcases hF with rfl | ⟨e, he, rfl⟩
  · rw [h1] at ha
    cases ha
    exact Or.inl rfl
  · rw [(h3 e he).2] at ha
    cases ha
    exact Or.inr rfl
section
variable {E : pw_E} {d : Nat} {w : pw_W} {τ : Bool} {m : Nat} {mc : Int32} {ks : Option Nat} {xs : List tE}
theorem c_key.obj {h : pw_H} {c : Nat} {κ : Int} (k : c_key τ h c κ) : ∃ (n : Nat) (us : List Value), h c = some (n, us) ∧ (n = 21 ∨ n = 28) := by
  cases τ with
  | true => exact ⟨28, _, k.1, Or.inr rfl⟩
  | false =>
    obtain ⟨s, ⟨b, v2, v3, h1, -⟩, -⟩ := k
    exact ⟨21, _, h1, Or.inl rfl⟩
theorem ck_cmp {c c' : Nat} {κ κ' : Int} {K : Int32 → pw_W → Prop} (hd : 6 ≤ d) (hw : wf E w) (h : c_key τ w.1 c κ) (h' : c_key τ w.1 c' κ') (H : ∀ z : Int, rI z → (z < 0 ↔ κ < κ') → (0 < z ↔ κ' < κ) → K (iI z) w) : f_VA E w (some c) [(21, m_J6_compareTo), (28, m_J21_compareTo)] d [va_rf (some c')] (c_i K) := by
  cases τ with
  | true =>
    obtain ⟨h1, h2⟩ := h
    obtain ⟨h1', h2'⟩ := h'
    replace hd := pw_d1 hd; obtain ⟨e, rfl, hd⟩ := hd
    replace hd := pw_d1 hd; obtain ⟨e, rfl, hd⟩ := hd
    replace hd := pw_d1 hd; obtain ⟨e, rfl, hd⟩ := hd
    refine ⟨c, _, 28, m_J21_compareTo, rfl, h1, by simp, e_J21_compareTo _ _ (s_J21_compareTo_0 _ _ ⟨Or.inr ⟨c', 28, _, rfl, h1', c_canN⟩, c, _, rfl, h1, e_J21_compareTo_2 _ _ (s_J21_compareTo_2_0 _ _ ⟨c, _, _, rfl, h1, rfl, c', _, _, rfl, h1', rfl, e_J21_compare _ _ (s_J21_compare_0 _ _ ?_)⟩)⟩)⟩
    have m1 : (iI κ' ≤ iI κ) = (κ' ≤ κ) := iI_le (rI_small (by omega) (by omega)) (rI_small (by omega) (by omega))
    have m2 : (iI κ = iI κ') = (κ = κ') := iI_eq (rI_small (by omega) (by omega)) (rI_small (by omega) (by omega))
    by_cases q : κ' ≤ κ
    · refine ifT (by rw [m1]; exact q) ?_
      by_cases r : κ = κ'
      · exact ifT (by rw [m2]; exact r) ⟨_, rfl, _, rfl, _, rfl, H 0 (by constructor <;> omega) (by omega) (by omega)⟩
      · exact ifF (by rw [m2]; exact r) ⟨_, rfl, _, rfl, _, rfl, H 1 (by constructor <;> omega) (by omega) (by omega)⟩
    · exact ifF (by rw [m1]; exact q) ⟨_, rfl, _, rfl, _, rfl, by rw [iI_m1]; exact H (-1) (by constructor <;> omega) (by omega) (by omega)⟩
  | false =>
    obtain ⟨s, h1, h2, h3, rfl⟩ := h
    obtain ⟨t, h1', h2', h3', rfl⟩ := h'
    obtain ⟨q1, q2, q3⟩ := s_cmp_wide h1.choose_spec.choose_spec.choose_spec.2.2.2 h1'.choose_spec.choose_spec.choose_spec.2.2.2 h2 h3 h2' h3'
    obtain ⟨b, v2, v3, g1, -⟩ := id h1
    exact ⟨c, _, 21, m_J6_compareTo, rfl, g1, by simp, cs_compareTo_ok (by omega) hw h1 h1' (by omega) (H _ q1 q2 q3)⟩
theorem c_canC1 : pw_can 21 "java/lang/Comparable" := Or.inl ⟨_, rfl, by decide, Or.inr q1458⟩
theorem c_canC2 : pw_can 28 "java/lang/Comparable" := Or.inl ⟨_, rfl, by decide, Or.inr q1445⟩
theorem c_key.cmp {h : pw_W} {c : Nat} {κ : Int} (k : c_key τ h.1 c κ) : pw_ok1 h "java/lang/Comparable" (some c) := by
  obtain ⟨n, us, h1, h2 | h2⟩ := k.obj
  · subst h2; exact Or.inr ⟨c, 21, us, rfl, h1, c_canC1⟩
  · subst h2; exact Or.inr ⟨c, 28, us, rfl, h1, c_canC2⟩
theorem t_id_ix {i : Nat} {e : tE} (h : xs[i]? = some e) : (t_ids xs)[i]? = some e.1 := by
  unfold t_ids
  rw [List.getElem?_map, h]
  rfl
theorem t_ix_id {i a : Nat} (h : (t_ids xs)[i]? = some a) : ∃ e, xs[i]? = some e ∧ e.1 = a := by
  unfold t_ids at h
  rw [List.getElem?_map] at h
  cases hx : xs[i]? with
  | none => rw [hx] at h; cases h
  | some e => rw [hx] at h; exact ⟨e, rfl, by simpa using h⟩
theorem tm_getEntry_ok {c : Nat} {κ : Int} {K : Option Nat → pw_W → Prop} (hd : 8 ≤ d) (hw : wf E w) (h : c_tm E τ w.1 w.1 m mc ks xs) (hk : c_key τ w.1 c κ) (H1 : ∀ (i : Nat) (e : tE), xs[i]? = some e → e.2.2.1 = κ → K (some e.1) w) (H0 : (∀ (i : Nat) (e : tE), xs[i]? = some e → e.2.2.1 ≠ κ) → K none w) : pw_Cl E m_J18_getEntry d [va_rf (some m), va_rf (some c)] w (c_r K) := by
  obtain ⟨⟨x0, x1, x6, x8, S, hL, hI⟩, h2, h3, h4⟩ := h
  replace hd := pw_d1 hd; obtain ⟨e, rfl, hd⟩ := hd
  replace hd := pw_d1 hd; obtain ⟨e, rfl, hd⟩ := hd
  refine e_J18_getEntry _ _ (s_J18_getEntry_0 _ _ ⟨m, _, none, rfl, hL.1, rfl, ifT rfl (e_J19_requireNonNull _ (s_J19_requireNonNull_0 _ (ifF (by simp) ⟨_, rfl, hk.cmp, tl_gr hL ?_⟩)))⟩)
  obtain ⟨lo, hi, hT⟩ := hI
  have key : ∀ (f : Nat) (o : Option Nat), (∀ a, o = some a → a ∈ t_ids xs ∧ hi a - lo a ≤ f ∧ ∀ (k : Nat) (e : tE), xs[k]? = some e → e.2.2.1 = κ → lo a ≤ k ∧ k < hi a) → (o = none → ∀ (i : Nat) (e : tE), xs[i]? = some e → e.2.2.1 ≠ κ) → pw_Wp E m_J18_getEntry (e + 1 + 1) 28 [none, none, some (va_rf (some c)), some (va_rf o), none] [] w (c_r K) := by
    intro f
    induction f with
    | zero =>
      intro o ho h0
      cases o with
      | none => exact s_J18_getEntry_28 _ _ (ifT rfl ⟨_, rfl, H0 (h0 rfl)⟩)
      | some a =>
        obtain ⟨ha, hf, -⟩ := ho a rfl
        obtain ⟨i, hi0⟩ := mem_ix ha
        obtain ⟨a1, a2, -⟩ := hT.2.1 i a hi0
        omega
    | succ f ih =>
      intro o ho h0
      cases o with
      | none => exact s_J18_getEntry_28 _ _ (ifT rfl ⟨_, rfl, H0 (h0 rfl)⟩)
      | some a =>
        obtain ⟨ha, hf, hin⟩ := ho a rfl
        obtain ⟨i, hi0⟩ := mem_ix ha
        obtain ⟨a1, a2, a3, a4, a5, a6, a7, a8, a9⟩ := hT.2.1 i a hi0
        obtain ⟨ea, hea, rfl⟩ := t_ix_id hi0
        obtain ⟨-, hn⟩ := hL.2.2 ea (List.mem_of_getElem? hea)
        refine s_J18_getEntry_28 _ _ (ifF (by simp) ⟨ea.1, _, _, rfl, hn, rfl, ck_cmp (by omega) hw hk (h2 ea (List.mem_of_getElem? hea)) (fun z z1 z2 z3 => ?_)⟩)
        have m1 : ((0 : Int32) ≤ iI z) = (0 ≤ z) := iI_le (a := 0) (rI_small (by omega) (by omega)) z1
        have m2 : (iI z ≤ 0) = (z ≤ 0) := iI_le (b := 0) z1 (rI_small (by omega) (by omega))
        by_cases q1 : 0 ≤ z
        · refine ifT (by rw [m1]; exact q1) ?_
          by_cases q2 : z ≤ 0
          · exact ifT (by rw [m2]; exact q2) ⟨_, rfl, H1 i ea hea (by omega)⟩
          · refine ifF (by rw [m2]; exact q2) (tl_g3 hL ha ?_)
            refine ih _ (fun b hb => ?_) (fun hb k e' hk' he' => ?_)
            · obtain ⟨b1, b2, b3, b4⟩ := a7 b hb
              refine ⟨b1, by omega, fun k e' hk' he' => ?_⟩
              have := hin k e' hk' he'
              rcases Nat.lt_trichotomy k i with t | t | t
              · have := h3 k i e' ea t hk' hea; omega
              · subst t; rw [hea] at hk'; cases hk'; omega
              · omega
            · have := hin k e' hk' he'
              have := a6 hb
              rcases Nat.lt_trichotomy k i with t | t | t
              · have := h3 k i e' ea t hk' hea; omega
              · subst t; rw [hea] at hk'; cases hk'; omega
              · omega
        · refine ifF (by rw [m1]; exact q1) (tl_g2 hL ha ?_)
          refine ih _ (fun b hb => ?_) (fun hb k e' hk' he' => ?_)
          · obtain ⟨b1, b2, b3, b4⟩ := a5 b hb
            refine ⟨b1, by omega, fun k e' hk' he' => ?_⟩
            have := hin k e' hk' he'
            rcases Nat.lt_trichotomy k i with t | t | t
            · omega
            · subst t; rw [hea] at hk'; cases hk'; omega
            · have := h3 i k ea e' t hea hk'; omega
          · have := hin k e' hk' he'
            have := a4 hb
            rcases Nat.lt_trichotomy k i with t | t | t
            · omega
            · subst t; rw [hea] at hk'; cases hk'; omega
            · have := h3 i k ea e' t hea hk'; omega
  refine key xs.length S.2.2.2.2 (fun a ha => ?_) (fun ha i e' he' => ?_)
  · obtain ⟨t1, t2, t3, t4⟩ := hT.2.2.1 a ha
    have hl : (t_ids xs).length = xs.length := List.length_map _
    refine ⟨t1, by omega, fun k e' hk' _ => ?_⟩
    have := (List.getElem?_eq_some_iff.mp hk').1
    omega
  · have := hT.2.2.2 ha
    have h9 := t_id_ix he'
    rw [this] at h9
    simp at h9
theorem tm_get_ok {c : Nat} {κ : Int} {K : Option Nat → pw_W → Prop} (hd : 9 ≤ d) (hw : wf E w) (h : c_tm E τ w.1 w.1 m mc ks xs) (hk : c_key τ w.1 c κ) (H1 : ∀ (i : Nat) (e : tE), xs[i]? = some e → e.2.2.1 = κ → K e.2.2.2 w) (H0 : (∀ (i : Nat) (e : tE), xs[i]? = some e → e.2.2.1 ≠ κ) → K none w) : pw_Cl E m_J18_get d [va_rf (some m), va_rf (some c)] w (c_r K) := by
  replace hd := pw_d1 hd; obtain ⟨e, rfl, hd⟩ := hd
  have h' := h
  obtain ⟨⟨x0, x1, x6, x8, S, hL, hI⟩, -⟩ := h
  refine e_J18_get _ _ (s_J18_get_0 _ _ ⟨m, _, rfl, hL.1, tm_getEntry_ok (by omega) hw h' hk (fun i e1 he hκ => ?_) (fun h0 => ifT rfl ⟨_, rfl, H0 h0⟩)⟩)
  obtain ⟨-, hn⟩ := hL.2.2 e1 (List.mem_of_getElem? he)
  exact ifF (by simp) ⟨e1.1, _, _, rfl, hn, rfl, _, rfl, H1 i e1 he hκ⟩
end
