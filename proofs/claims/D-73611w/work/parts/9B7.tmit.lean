set_option maxRecDepth 100000
/-! the component: TreeMap's keys, one behind the other -/
/-- an iterator over a map's keys that stands before the k-th -/
def c_kit (h : pw_H) (it k : Nat) (mc : Int32) (m : Nat) (xs : List tE) : Prop := ∃ l : Option Nat, h it = some (25, [va_rf ((xs[k]?).map (fun e => e.1)), va_rf l, .int mc, va_rf (some m)])
section
variable {E : pw_E} {d : Nat} {w : pw_W} {τ : Bool} {m : Nat} {mc : Int32} {ks : Option Nat} {xs : List tE}
theorem c_canM : pw_can 22 "java/util/TreeMap" := Or.inl ⟨_, rfl, by decide, Or.inl rfl⟩
/-- down to the left, from a node -/
theorem tm_first {e : Nat} {S : tS} {v : tV} {lo hi : Nat → Nat} {K : Option Nat → pw_W → Prop} (hL : c_tL E w.1 m v xs S) (hT : tI (t_ids xs) S.1 S.2.1 S.2.2.1 lo hi S.2.2.2.2) : ∀ (f a i0 : Nat), a ∈ t_ids xs → hi a - lo a ≤ f → lo a = i0 → K ((xs[i0]?).map (fun e => e.1)) w → pw_Wp E m_J18_getFirstEntry (e + 1) 9 [none, some (va_rf (some a))] [] w (c_r K) := by
  intro f
  induction f with
  | zero =>
    intro a i0 ha hf
    obtain ⟨i, hi0⟩ := mem_ix ha
    obtain ⟨a1, a2, -⟩ := hT.2.1 i a hi0
    omega
  | succ f ih =>
    intro a i0 ha hf h0 H
    obtain ⟨i, hi0⟩ := mem_ix ha
    obtain ⟨a1, a2, a3, a4, a5, -⟩ := hT.2.1 i a hi0
    refine s_J18_getFirstEntry_9 _ (tl_g2 hL ha ?_)
    cases hb : S.1 a with
    | none =>
      have := a4 hb
      obtain ⟨ea, hea, rfl⟩ := t_ix_id hi0
      have : i0 = i := by omega
      subst this
      rw [hea] at H
      exact ifT rfl ⟨_, rfl, H⟩
    | some b =>
      obtain ⟨b1, b2, b3, b4⟩ := a5 b hb
      refine ifF (by simp) (tl_g2 hL ha ?_)
      rw [hb]
      exact ih b i0 b1 (by omega) (by omega) H
theorem tm_succ18 {e : Nat} {S : tS} {v : tV} {lo hi : Nat → Nat} {K : Option Nat → pw_W → Prop} (hL : c_tL E w.1 m v xs S) (hT : tI (t_ids xs) S.1 S.2.1 S.2.2.1 lo hi S.2.2.2.2) : ∀ (f a i0 : Nat), a ∈ t_ids xs → hi a - lo a ≤ f → lo a = i0 → K ((xs[i0]?).map (fun e => e.1)) w → pw_Wp E m_J18_successor (e + 1) 18 [none, some (va_rf (some a)), none] [] w (c_r K) := by
  intro f
  induction f with
  | zero =>
    intro a i0 ha hf
    obtain ⟨i, hi0⟩ := mem_ix ha
    obtain ⟨a1, a2, -⟩ := hT.2.1 i a hi0
    omega
  | succ f ih =>
    intro a i0 ha hf h0 H
    obtain ⟨i, hi0⟩ := mem_ix ha
    obtain ⟨a1, a2, a3, a4, a5, -⟩ := hT.2.1 i a hi0
    refine s_J18_successor_18 _ (tl_g2 hL ha ?_)
    cases hb : S.1 a with
    | none =>
      have := a4 hb
      obtain ⟨ea, hea, rfl⟩ := t_ix_id hi0
      have : i0 = i := by omega
      subst this
      rw [hea] at H
      exact ifT rfl ⟨_, rfl, H⟩
    | some b =>
      obtain ⟨b1, b2, b3, b4⟩ := a5 b hb
      refine ifF (by simp) (tl_g2 hL ha ?_)
      rw [hb]
      exact ih b i0 b1 (by omega) (by omega) H
theorem tm_succ42 {e : Nat} {S : tS} {v : tV} {lo hi : Nat → Nat} {K : Option Nat → pw_W → Prop} (hL : c_tL E w.1 m v xs S) (hT : tI (t_ids xs) S.1 S.2.1 S.2.2.1 lo hi S.2.2.2.2) : ∀ (f c i : Nat), c ∈ t_ids xs → lo c < f → hi c = i + 1 → K ((xs[i + 1]?).map (fun e => e.1)) w → pw_Wp E m_J18_successor (e + 1) 42 [none, some (va_rf (S.2.2.1 c)), some (va_rf (some c))] [] w (c_r K) := by
  have hlen : (t_ids xs).length = xs.length := List.length_map _
  intro f
  induction f with
  | zero => intro c i hc hf; omega
  | succ f ih =>
    intro c i hc hf hh H
    obtain ⟨j, hj0⟩ := mem_ix hc
    obtain ⟨c1, c2, c3, c4, c5, c6, c7, c8, c9⟩ := hT.2.1 j c hj0
    cases hp : S.2.2.1 c with
    | none =>
      obtain ⟨t1, t2, t3, t4⟩ := hT.2.2.1 c (c8 hp)
      refine s_J18_successor_42 _ _ (ifT rfl ⟨_, rfl, ?_⟩)
      rw [List.getElem?_eq_none (by omega)] at H
      exact H
    | some g =>
      obtain ⟨g1, g2⟩ := c9 g hp
      obtain ⟨k, hk0⟩ := mem_ix g1
      obtain ⟨b1, b2, b3, b4, b5, b6, b7, b8, b9⟩ := hT.2.1 k g hk0
      refine s_J18_successor_42 _ _ (ifF (by simp) (tl_g3 hL g1 ?_))
      by_cases z : some c = S.2.1 g
      · obtain ⟨d1, d2, d3, d4⟩ := b7 c z.symm
        exact ifT z (tl_g4 hL g1 (ih g i g1 (by omega) (by omega) H))
      · have hl : S.1 g = some c := g2.resolve_right (fun t => z t.symm)
        obtain ⟨d1, d2, d3, d4⟩ := b5 c hl
        obtain ⟨eg, heg, rfl⟩ := t_ix_id hk0
        have : i + 1 = k := by omega
        rw [this, heg] at H
        exact ifF z ⟨_, rfl, H⟩
theorem tm_successor_ok {i : Nat} {e0 : tE} {K : Option Nat → pw_W → Prop} (hd : 1 ≤ d) (h : c_tm E τ w.1 w.1 m mc ks xs) (hi : xs[i]? = some e0) (H : K ((xs[i + 1]?).map (fun e => e.1)) w) : pw_Cl E m_J18_successor d [va_rf (some e0.1)] w (c_r K) := by
  replace hd := pw_d1 hd; obtain ⟨e, rfl, hd⟩ := hd
  obtain ⟨⟨x0, x1, x6, x8, S, hL, lo, hi', hT⟩, -⟩ := h
  have hlen : (t_ids xs).length = xs.length := List.length_map _
  have hix := t_id_ix hi
  have him := List.mem_of_getElem? hix
  obtain ⟨a1, a2, a3, a4, a5, a6, a7, a8, a9⟩ := hT.2.1 i e0.1 hix
  refine e_J18_successor _ (s_J18_successor_0 _ (ifF (by simp) (tl_g3 hL him ?_)))
  cases hb : S.2.1 e0.1 with
  | none =>
    exact ifT rfl (tl_g4 hL him (tm_succ42 hL hT (xs.length + 1) e0.1 i him (by omega) (a6 hb) H))
  | some b =>
    obtain ⟨b1, b2, b3, b4⟩ := a7 b hb
    refine ifF (by simp) (tl_g3 hL him ?_)
    rw [hb]
    exact tm_succ18 hL hT xs.length b (i + 1) b1 (by omega) b2 H
/-- the keys' set is made once -/
theorem tm_keySet_ok {K : Option Nat → pw_W → Prop} (hd : 5 ≤ d) (hw : wf E w) (h : c_tm E τ w.1 w.1 m mc none xs) (H : ∀ w', cx E w w' (fun q => q = m) 5 → w'.2.1 = w.2.1 + 1 → c_tm E τ w'.1 w'.1 m mc (some w.2.1) xs → w'.1 w.2.1 = some (24, [va_rf (some m)]) → K (some w.2.1) w') : pw_Cl E m_J18_navigableKeySet d [va_rf (some m)] w (c_r K) := by
  have h' := h
  obtain ⟨⟨x0, x1, x6, x8, S, hL, hI⟩, h5, h6, h7⟩ := h
  replace hd := pw_d1 hd; obtain ⟨e, rfl, hd⟩ := hd
  refine e_J18_navigableKeySet _ (s_J18_navigableKeySet_0 _ ⟨m, _, none, rfl, hL.1, rfl, ifT rfl ?_⟩)
  replace hd := pw_d1 hd; obtain ⟨e, rfl, hd⟩ := hd
  refine e_J26_init _ _ (s_J26_init_0 _ _ ?_)
  replace hd := pw_d1 hd; obtain ⟨e, rfl, hd⟩ := hd
  refine e_J25_init _ (s_J25_init_0 _ ?_)
  replace hd := pw_d1 hd; obtain ⟨e, rfl, hd⟩ := hd
  refine e_J0_init _ (s_J0_init_0 _ ⟨rfl, rfl, w.2.1, _, rfl, pw_new_1 _ _ _, hw.b, ?_⟩)
  rw [pw_up_new]
  have c1 : cx E w (pw_new w (24, [va_rf (some m)]) 1) (fun q => q = m) 5 := cx.new hw _ 1
  have hm := hw.lt hL.1
  have k1 : c_tL E (pw_new w (24, [va_rf (some m)]) 1).1 m (x0, x1, .int (iI xs.length), .int mc, x6, va_rf none, x8) xs S := by
    refine ⟨?_, hL.2.1, fun f hf => ⟨(hL.2.2 f hf).1, ?_⟩⟩
    · rw [pw_new_ne (by omega)]; exact hL.1
    · have := hw.lt (hL.2.2 f hf).2
      rw [pw_new_ne (by omega)]; exact (hL.2.2 f hf).2
  have c2 : cx E (pw_new w (24, [va_rf (some m)]) 1) (pw_up (pw_new w (24, [va_rf (some m)]) 1) m (22, t_os (x0, x1, .int (iI xs.length), .int mc, x6, va_rf (some w.2.1), x8) S)) (fun q => q = m) 0 := cx.up c1.ok _ k1.1 hL.2.1 rfl
  have c3 := (c1.tr c2).le (show 5 + 0 ≤ 5 by omega)
  have hF : ∀ (a : Nat) (o : pw_O), w.1 a = some o → a = m → o.1 ≠ 21 ∧ o.1 ≠ 28 ∧ o.1 ≠ 1001 := fun a o ha hf => t_F_ok h' a o ha (Or.inl hf)
  refine ⟨rfl, m, _, rfl, k1.1, hL.2.1, _, rfl, H _ c3 rfl ⟨⟨x0, x1, x6, x8, S, ⟨pw_up_1 _ _ _, hL.2.1, fun f hf => ⟨(hL.2.2 f hf).1, ?_⟩⟩, hI⟩, fun f hf => (h5 f hf).keep c3 hF, h6, h7⟩ ?_⟩
  · rw [pw_up_ne (tl_node_ne hL f hf)]
    exact (k1.2.2 f hf).2
  · rw [pw_up_ne (by omega)]
    exact pw_new_1 w (24, [va_rf (some m)]) 1
theorem tm_iterator_ok {s : Nat} {K : Option Nat → pw_W → Prop} (hd : 5 ≤ d) (hw : wf E w) (h : c_tm E τ w.1 w.1 m mc ks xs) (hs : w.1 s = some (24, [va_rf (some m)])) (H : ∀ w', cx E w w' c_no 8 → w'.2.1 = w.2.1 + 1 → c_kit w'.1 w.2.1 0 mc m xs → K (some w.2.1) w') : pw_Cl E m_J26_iterator d [va_rf (some s)] w (c_r K) := by
  have h' := h
  obtain ⟨⟨x0, x1, x6, x8, S, hL, lo, hi, hT⟩, h5, h6, h7⟩ := h
  have hlen : (t_ids xs).length = xs.length := List.length_map _
  replace hd := pw_d1 hd; obtain ⟨e, rfl, hd⟩ := hd
  refine e_J26_iterator _ (s_J26_iterator_0 _ ⟨s, _, _, rfl, hs, rfl, Or.inr ⟨⟨m, 22, _, _, rfl, hL.1, rfl, rfl⟩, s, _, _, rfl, hs, rfl, Or.inr ⟨m, 22, _, rfl, hL.1, c_canM⟩, m, _, rfl, hL.1, ?_⟩⟩)
  replace hd := pw_d1 hd; obtain ⟨e, rfl, hd⟩ := hd
  have c1 : ∀ us, cx E w (pw_new w (25, us) 4) c_no 8 := fun us => cx.new hw _ 4
  have k1 : ∀ us, c_tL E (pw_new w (25, us) 4).1 m (x0, x1, .int (iI xs.length), .int mc, x6, va_rf ks, x8) xs S := fun us => ⟨(c1 us).at hL.1, hL.2.1, fun f hf => ⟨(hL.2.2 f hf).1, (c1 us).at (hL.2.2 f hf).2⟩⟩
  have fin : ∀ us, pw_Cl E m_J28_init e [va_rf (some w.2.1), va_rf (some m), va_rf ((xs[0]?).map (fun e => e.1))] (pw_new w (25, [va_rf none, va_rf none, .int 0, us]) 4) (c_v (fun w7 => c_r (fun o12 w11 => c_r K (.inl (some (va_rf o12))) w11) (.inl (some (va_rf (some w.2.1)))) w7)) := by
    intro us
    replace hd := pw_d1 hd; obtain ⟨e, rfl, hd⟩ := hd
    refine e_J28_init _ _ _ (s_J28_init_0 _ _ _ ?_)
    replace hd := pw_d1 hd; obtain ⟨e, rfl, hd⟩ := hd
    refine e_J27_init _ _ _ (s_J27_init_0 _ _ _ ⟨w.2.1, _, rfl, pw_new_1 _ _ _, hw.b, ?_⟩)
    rw [pw_up_new]
    refine ⟨m, _, mc, rfl, (k1 _).1, rfl, w.2.1, _, rfl, pw_new_1 _ _ _, hw.b, ?_⟩
    rw [pw_up_new]
    refine ⟨w.2.1, _, rfl, pw_new_1 _ _ _, hw.b, ?_⟩
    rw [pw_up_new]
    refine ⟨w.2.1, _, rfl, pw_new_1 _ _ _, hw.b, ?_⟩
    rw [pw_up_new]
    exact ⟨rfl, rfl, _, rfl, _, rfl, H _ (c1 _) rfl ⟨none, pw_new_1 _ _ _⟩⟩
  refine e_J18_keyIterator _ (s_J18_keyIterator_0 _ ⟨m, _, rfl, (k1 _).1, ?_⟩)
  have hd' := pw_d1 hd
  obtain ⟨e', he', -⟩ := hd'
  subst he'
  refine e_J18_getFirstEntry _ (s_J18_getFirstEntry_0 _ (tl_gr (k1 _) ?_))
  cases hr : S.2.2.2.2 with
  | none =>
    refine ifT rfl ⟨_, rfl, ?_⟩
    have h0 : xs = [] := by
      have := hT.2.2.2 hr
      rw [this] at hlen
      exact List.length_eq_zero_iff.mp (by simpa using hlen.symm)
    have := fin (va_rf none)
    rw [h0] at this
    exact this
  | some r0 =>
    obtain ⟨t1, t2, t3, t4⟩ := hT.2.2.1 r0 hr
    exact ifF (by simp) (tm_first (k1 _) hT xs.length r0 0 t1 (by omega) t2 (fin _))
/-- a step of a loop over a map's keys -/
theorem tm_step {it k : Nat} {X : pw_W → Prop} {Y : Option Nat → pw_W → Prop} (hd : 4 ≤ d) (hw : wf E w) (hi : c_kit w.1 it k mc m xs) (hb : pw_base E ≤ it) (h : c_tm E τ w.1 w.1 m mc ks xs) (hX : xs[k]? = none → X w) (hY : ∀ (e : tE) (w' : pw_W), xs[k]? = some e → cx E w w' (fun q => q = it) 0 → w'.2 = w.2 → c_kit w'.1 it (k + 1) mc m xs → Y (some e.2.1) w') :
    f_V E w (some it) 25 m_J27_hasNext d [] (c_z (fun b w1 => (if bI b = 0 then X w1 else f_V E w1 (some it) 25 m_J28_next d [] (c_r Y)))) := by
  have h' := h
  obtain ⟨⟨x0, x1, x6, x8, S, hL, hI⟩, h5, h6, h7⟩ := h
  replace hd := pw_d1 hd; obtain ⟨e, rfl, hd⟩ := hd
  obtain ⟨l, hi⟩ := hi
  refine ⟨it, _, rfl, hi, e_J27_hasNext _ (s_J27_hasNext_0 _ ⟨it, _, _, rfl, hi, rfl, ?_⟩)⟩
  cases hx : xs[k]? with
  | none => exact ifT rfl ⟨false, rfl, ifT rfl (hX hx)⟩
  | some e0 =>
    rw [hx] at hi
    refine ifF (by simp) ⟨true, rfl, ifF (by decide) ⟨it, _, rfl, hi, ?_⟩⟩
    replace hd := pw_d1 hd; obtain ⟨e, rfl, hd⟩ := hd
    refine e_J28_next _ (s_J28_next_0 _ ⟨it, _, rfl, hi, ?_⟩)
    replace hd := pw_d1 hd; obtain ⟨e, rfl, hd⟩ := hd
    refine e_J27_nextEntry _ (s_J27_nextEntry_0 _ ⟨it, _, some e0.1, rfl, hi, rfl, ifF (by simp) ⟨it, _, some m, rfl, hi, rfl, m, _, mc, rfl, hL.1, rfl, it, _, mc, rfl, hi, rfl, ifT rfl ?_⟩⟩)
    obtain ⟨n1, n2⟩ := hL.2.2 e0 (List.mem_of_getElem? hx)
    have hne : e0.1 ≠ it := by
      intro q
      rw [q, hi] at n2
      cases n2
    refine tm_successor_ok (by omega) h' hx ⟨it, _, rfl, hi, hb, it, _, rfl, pw_up_1 _ _ _, hb, ?_⟩
    rw [pw_up_up]
    refine ⟨_, rfl, e0.1, _, _, rfl, (by rw [pw_up_ne hne]; exact n2), rfl, _, rfl, hY e0 _ hx (cx.up hw _ hi hb rfl) rfl ⟨some e0.1, ?_⟩⟩
    rw [pw_up_1]
    rfl
end
