set_option maxRecDepth 100000
/-! the component: TreeMap: made, put into, gone through -/
section
variable {E : pw_E} {d : Nat} {w u : pw_W} {τ : Bool} {m : Nat} {mc : Int32} {ks : Option Nat} {xs : List tE} {v : tV} {S : tS}
theorem t_F_ok (h : c_tm E τ w.1 w.1 m mc ks xs) : ∀ (a : Nat) (o : pw_O), w.1 a = some o → t_F m xs a → o.1 ≠ 21 ∧ o.1 ≠ 28 ∧ o.1 ≠ 1001 := by
  intro a o ha hf
  rcases h.kind a o ha hf with q | q <;> omega
theorem tn_req {c : Nat} {K : Option Nat → pw_W → Prop} (hd : 1 ≤ d) (H : K (some c) w) : pw_Cl E m_J19_requireNonNull d [va_rf (some c)] w (c_r K) := by
  replace hd := pw_d1 hd; obtain ⟨e, rfl, hd⟩ := hd
  exact e_J19_requireNonNull _ (s_J19_requireNonNull_0 _ (ifF (by simp) ⟨_, rfl, H⟩))
/-- a value put in place of another -/
theorem tm_val {i : Nat} {e0 : tE} {vv : Option Nat} (hw : wf E w) (h : c_tm E τ w.1 w.1 m mc ks xs) (hi : xs[i]? = some e0) {K : pw_W → Prop} (H : ∀ w', cx E w w' (fun q => q = e0.1) 0 → w'.2 = w.2 → c_tm E τ w'.1 w'.1 m mc ks (xs.set i (e0.1, e0.2.1, e0.2.2.1, vv)) → K w') : f_put E w (some e0.1) 23 1 (va_rf vv) K := by
  obtain ⟨⟨x0, x1, x6, x8, S, hL, hI⟩, h5, h6, h7⟩ := id h
  have him := List.mem_of_getElem? hi
  have hil := (List.getElem?_eq_some_iff.mp hi).1
  obtain ⟨n1, n2⟩ := hL.2.2 e0 him
  have c1 : cx E w (pw_up w e0.1 (23, (t_fs e0 S).set 1 (va_rf vv))) (fun q => q = e0.1) 0 := cx.up hw _ n2 n1 rfl
  have hF : ∀ (a : Nat) (o : pw_O), w.1 a = some o → a = e0.1 → o.1 ≠ 21 ∧ o.1 ≠ 28 ∧ o.1 ≠ 1001 := by
    intro a o ha hf
    subst hf
    rw [n2] at ha
    cases ha
    exact ⟨(by decide : (23 : Nat) ≠ 21), (by decide : (23 : Nat) ≠ 28), (by decide : (23 : Nat) ≠ 1001)⟩
  have nd : (t_ids xs).Nodup := by
    obtain ⟨lo, hi', hT⟩ := hI
    exact hT.1
  have get : ∀ (j : Nat) (f : tE), (xs.set i (e0.1, e0.2.1, e0.2.2.1, vv))[j]? = some f → (j = i ∧ f = (e0.1, e0.2.1, e0.2.2.1, vv)) ∨ (j ≠ i ∧ xs[j]? = some f) := by
    intro j f hf
    by_cases z : j = i
    · subst z
      rw [List.getElem?_set_self hil] at hf
      exact Or.inl ⟨rfl, (Option.some.inj hf).symm⟩
    · rw [List.getElem?_set_ne (Ne.symm z)] at hf
      exact Or.inr ⟨z, hf⟩
  have eid : t_ids (xs.set i (e0.1, e0.2.1, e0.2.2.1, vv)) = t_ids xs := by
    apply List.ext_getElem?
    intro j
    unfold t_ids
    rw [List.getElem?_map, List.getElem?_map]
    by_cases z : j = i
    · subst z
      rw [List.getElem?_set_self hil, hi]
      rfl
    · rw [List.getElem?_set_ne (Ne.symm z)]
  refine ⟨e0.1, _, rfl, n2, n1, H _ c1 rfl ⟨⟨x0, x1, x6, x8, S, ⟨?_, hL.2.1, fun f hf => ?_⟩, ?_⟩, fun f hf => ?_, fun j k f g hjk hf hg => ?_, by rw [List.length_set]; exact h7⟩⟩
  · rw [pw_up_ne (Ne.symm (tl_node_ne hL e0 him)), List.length_set]
    exact hL.1
  · obtain ⟨j, hj⟩ := List.getElem?_of_mem hf
    rcases get j f hj with ⟨rfl, rfl⟩ | ⟨z, hj'⟩
    · refine ⟨n1, ?_⟩
      show (pw_up w e0.1 _).1 e0.1 = _
      rw [pw_up_1]
      rfl
    · obtain ⟨q1, q2⟩ := hL.2.2 f (List.mem_of_getElem? hj')
      refine ⟨q1, ?_⟩
      rw [pw_up_ne (fun q => z (nd_ix nd (t_id_ix hj') (by rw [q]; exact t_id_ix hi)))]
      exact q2
  · unfold t_I
    rw [eid]
    exact hI
  · obtain ⟨j, hj⟩ := List.getElem?_of_mem hf
    rcases get j f hj with ⟨rfl, rfl⟩ | ⟨z, hj'⟩
    · exact (h5 e0 him).keep c1 hF
    · exact (h5 f (List.mem_of_getElem? hj')).keep c1 hF
  · rcases get j f hf with ⟨rfl, rfl⟩ | ⟨z, hf'⟩
    · rcases get k g hg with ⟨rfl, rfl⟩ | ⟨z', hg'⟩
      · omega
      · exact h6 j k e0 g hjk hi hg'
    · rcases get k g hg with ⟨rfl, rfl⟩ | ⟨z', hg'⟩
      · exact h6 j k f e0 hjk hf' hi
      · exact h6 j k f g hjk hf' hg'
/-- what comes of a new entry -/
theorem tm_ins {j : Nat} {w' : pw_W} {S' : tS} {x0 x1 x6 x8 : Value} {c : Nat} {κ : Int} {vv : Option Nat} (h : c_tm E τ w.1 w.1 m mc ks xs) (hw : wf E w) (hk : c_key τ w.1 c κ) (hj : j ≤ xs.length) (hl : xs.length < 100000) (hp : ∀ (i : Nat) (e : tE), xs[i]? = some e → (i < j → e.2.2.1 < κ) ∧ (j ≤ i → κ < e.2.2.1)) (z : cx E w w' (t_F m xs) 10) (kL : c_tL E w'.1 m (x0, x1, .int (iI xs.length + 1), .int (mc + 1), x6, va_rf ks, x8) (xs.take j ++ (w.2.1, c, κ, vv) :: xs.drop j) S') (hI : t_I (xs.take j ++ (w.2.1, c, κ, vv) :: xs.drop j) S') : c_tm E τ w'.1 w'.1 m (mc + 1) ks (xs.take j ++ (w.2.1, c, κ, vv) :: xs.drop j) := by
  have hF := t_F_ok h
  obtain ⟨-, h5, h6, h7⟩ := h
  have hlen : (xs.take j ++ (w.2.1, c, κ, vv) :: xs.drop j).length = xs.length + 1 := by simp; omega
  refine ⟨⟨x0, x1, x6, x8, S', ?_, hI⟩, fun e he => ?_, fun i k e f hik he hf => ?_, by rw [hlen]; omega⟩
  · rw [hlen]
    rw [iI_ad1] at kL
    exact kL
  · rcases t_ins_mem.mp he with rfl | he
    · exact hk.keep z hF
    · exact (h5 e he).keep z hF
  · rcases t_ins_ix hj he with ⟨a1, a2⟩ | ⟨rfl, rfl⟩ | ⟨a1, a2⟩
    · rcases t_ins_ix hj hf with ⟨b1, b2⟩ | ⟨rfl, rfl⟩ | ⟨b1, b2⟩
      · exact h6 i k e f hik a2 b2
      · exact (hp i e a2).1 a1
      · exact h6 i (k - 1) e f (by omega) a2 b2
    · rcases t_ins_ix hj hf with ⟨b1, b2⟩ | ⟨q, rfl⟩ | ⟨b1, b2⟩
      · omega
      · omega
      · exact (hp (k - 1) f b2).2 (by omega)
    · rcases t_ins_ix hj hf with ⟨b1, b2⟩ | ⟨rfl, rfl⟩ | ⟨b1, b2⟩
      · omega
      · omega
      · exact h6 (i - 1) (k - 1) e f (by omega) a2 b2
theorem tm_put_ok {c : Nat} {κ : Int} {vv : Option Nat} {K : Option Nat → pw_W → Prop} (hd : 12 ≤ d) (hw : wf E w) (h : c_tm E τ w.1 w.1 m mc ks xs) (hk : c_key τ w.1 c κ) (hl : xs.length < 100000)
    (H1 : ∀ (i : Nat) (e : tE) (w' : pw_W), xs[i]? = some e → e.2.2.1 = κ → cx E w w' (fun q => q = e.1) 0 → w'.2 = w.2 → c_tm E τ w'.1 w'.1 m mc ks (xs.set i (e.1, e.2.1, e.2.2.1, vv)) → K e.2.2.2 w')
    (H0 : ∀ (j : Nat) (w' : pw_W), j ≤ xs.length → (∀ (i : Nat) (e : tE), xs[i]? = some e → (i < j → e.2.2.1 < κ) ∧ (j ≤ i → κ < e.2.2.1)) → cx E w w' (t_F m xs) 10 → w'.2.1 = w.2.1 + 1 → c_tm E τ w'.1 w'.1 m (mc + 1) ks (xs.take j ++ (w.2.1, c, κ, vv) :: xs.drop j) → K none w') : pw_Cl E m_J18_put d [va_rf (some m), va_rf (some c), va_rf vv] w (c_r K) := by
  have h' := h
  obtain ⟨⟨x0, x1, x6, x8, S, hL, hI⟩, h5, h6, h7⟩ := h
  replace hd := pw_d1 hd; obtain ⟨e, rfl, hd⟩ := hd
  refine e_J18_put _ _ _ (s_J18_put_0 _ _ _ ⟨m, _, rfl, hL.1, ?_⟩)
  replace hd := pw_d1 hd; obtain ⟨e, rfl, hd⟩ := hd
  refine e_J18_put_2 _ _ _ true (s_J18_put_2_0 _ _ _ true (tl_gr hL ?_))
  obtain ⟨lo, hi, hT⟩ := hI
  have hI : t_I xs S := ⟨lo, hi, hT⟩
  have hlen : (t_ids xs).length = xs.length := List.length_map _
  cases hr : S.2.2.2.2 with
  | none =>
    have h0 : xs = [] := by
      have := hT.2.2.2 hr
      rw [this] at hlen
      exact List.length_eq_zero_iff.mp (by simpa using hlen.symm)
    subst h0
    refine ifT rfl ⟨m, _, rfl, hL.1, ?_⟩
    replace hd := pw_d1 hd; obtain ⟨e, rfl, hd⟩ := hd
    refine e_J18_addEntryToEmptyMap _ _ _ (s_J18_addEntryToEmptyMap_0 _ _ _ ⟨m, _, rfl, hL.1, ?_⟩)
    replace hd := pw_d1 hd; obtain ⟨e, rfl, hd⟩ := hd
    refine e_J18_compare _ _ _ (s_J18_compare_0 _ _ _ ⟨m, _, none, rfl, hL.1, rfl, ifT rfl ⟨hk.cmp, ck_cmp (by omega) hw hk hk (fun z z1 z2 z3 => ⟨_, rfl, te_init_ok (by omega) hw rfl ⟨0, rfl⟩ ?_⟩)⟩⟩)
    have c1 : cx E w (pw_new w (23, [va_rf (some c), va_rf vv, va_rf none, va_rf none, va_rf none, .int 1]) 6) (t_F m []) 10 := cx.new hw _ 6
    have k1 : c_tL E (pw_new w (23, [va_rf (some c), va_rf vv, va_rf none, va_rf none, va_rf none, .int 1]) 6).1 m (x0, x1, .int (iI (([] : List tE).length : Nat)), .int mc, x6, va_rf ks, x8) [(w.2.1, c, κ, vv)] ((fun _ => none), (fun _ => none), (fun _ => none), (fun _ => true), none) := by
      refine ⟨?_, hL.2.1, fun f hf => ?_⟩
      · have := hw.lt hL.1
        rw [pw_new_ne (by omega), hL.1]
        unfold t_os
        rw [hr]
      · rw [List.mem_singleton] at hf
        subst hf
        exact ⟨hw.b, pw_new_1 _ _ _⟩
    refine tl_pr c1.ok k1 (fun u2 hU2 k2 => tl_pm hU2.1.ok k2 (v' := (x0, x1, .int 1, .int mc, x6, va_rf ks, x8)) rfl (fun u3 hU3 k3 => ⟨m, _, mc, rfl, k3.1, rfl, tl_pm hU3.1.ok k3 (v' := (x0, x1, .int 1, .int (mc + 1), x6, va_rf ks, x8)) rfl (fun u4 hU4 k4 => ⟨rfl, _, rfl, _, rfl, ?_⟩)⟩))
    have hU : tU E m [(w.2.1, c, κ, vv)] (pw_new w (23, [va_rf (some c), va_rf vv, va_rf none, va_rf none, va_rf none, .int 1]) 6) u4 := (hU2.tr hU3).tr hU4
    have cF : cx E w u4 (t_F m []) 10 := tU_new (xs := []) (p := 0) hw rfl c1 hU
    refine H0 0 u4 (Nat.le_refl _) (fun i e he => by simp at he) cF ?_ ?_
    · rw [hU.2]; rfl
    · exact tm_ins (S' := ((fun _ => none), (fun _ => none), (fun _ => none), (fun _ => true), some w.2.1)) h' hw hk (Nat.le_refl _) hl (fun i e he => by simp at he) cF k4 ⟨_, _, tI.one w.2.1⟩
  | some r0 =>
    refine ifF (by simp) ⟨m, _, none, rfl, hL.1, rfl, ifT rfl (tn_req (by omega) ⟨hk.cmp, ?_⟩)⟩
    have key : ∀ (f a : Nat), a ∈ t_ids xs → hi a - lo a ≤ f → (∀ (k : Nat) (e : tE), xs[k]? = some e → (k < lo a → e.2.2.1 < κ) ∧ (hi a ≤ k → κ < e.2.2.1)) → pw_Wp E m_J18_put_2 (e + 1) 123 [some (va_rf (some m)), some (va_rf (some c)), some (va_rf vv), some (.int (bI true)), some (va_rf (some a)), none, none, none, some (va_rf (some c)), none] [] w (c_r (fun o2 w1 => c_r K (.inl (some (va_rf o2))) w1)) := by
      intro f
      induction f with
      | zero =>
        intro a ha hf _
        obtain ⟨i, hi0⟩ := mem_ix ha
        obtain ⟨a1, a2, -⟩ := hT.2.1 i a hi0
        omega
      | succ f ih =>
        intro a ha hf hin
        obtain ⟨i, hi0⟩ := mem_ix ha
        obtain ⟨a1, a2, a3, a4, a5, a6, a7, a8, a9⟩ := hT.2.1 i a hi0
        obtain ⟨ea, hea, rfl⟩ := t_ix_id hi0
        have heam := List.mem_of_getElem? hea
        have hil := (List.getElem?_eq_some_iff.mp hea).1
        obtain ⟨-, hn⟩ := hL.2.2 ea heam
        refine s_J18_put_2_123 _ _ _ true _ _ ⟨ea.1, _, _, rfl, hn, rfl, ck_cmp (by omega) hw hk (h5 ea heam) (fun z z1 z2 z3 => ?_)⟩
        have m1 : ((0 : Int32) ≤ iI z) = (0 ≤ z) := iI_le (a := 0) (rI_small (by omega) (by omega)) z1
        have m2 : (iI z ≤ 0) = (z ≤ 0) := iI_le (b := 0) z1 (rI_small (by omega) (by omega))
        by_cases q1 : 0 ≤ z
        · refine ifT (by rw [m1]; exact q1) ?_
          by_cases q2 : z ≤ 0
          · refine ifT (by rw [m2]; exact q2) ⟨ea.1, _, _, rfl, hn, rfl, ifF (by decide) (tm_val hw h' hea (fun w' c1 n1 k1 => ⟨_, rfl, _, rfl, H1 i ea w' hea (by omega) c1 n1 k1⟩))⟩
          · refine ifF (by rw [m2]; exact q2) (tl_g3 hL ha ?_)
            have pos : ∀ (k : Nat) (e : tE), xs[k]? = some e → k ≤ i → e.2.2.1 < κ := by
              intro k e' hk' hki
              by_cases t : k = i
              · subst t; rw [hea] at hk'; cases hk'; omega
              · have := h6 k i e' ea (by omega) hk' hea; omega
            cases hb : S.2.1 ea.1 with
            | none =>
              have := a6 hb
              refine ifT rfl (ifT (by rw [m1]; exact q1) ⟨m, _, rfl, hL.1, tm_addR_ok (κ := κ) (by omega) hw hL hI hi0 hb (fun w' S' c1 n1 k1 i1 => ⟨_, rfl, _, rfl, ?_⟩)⟩)
              have hp : ∀ (k : Nat) (e : tE), xs[k]? = some e → (k < i + 1 → e.2.2.1 < κ) ∧ (i + 1 ≤ k → κ < e.2.2.1) := fun k e' hk' => ⟨fun t => pos k e' hk' (by omega), fun t => (hin k e' hk').2 (by omega)⟩
              exact H0 (i + 1) w' (by omega) hp c1 n1 (tm_ins h' hw hk (by omega) hl hp c1 k1 i1)
            | some b =>
              obtain ⟨b1, b2, b3, b4⟩ := a7 b hb
              refine ifF (by simp) (ih b b1 (by omega) (fun k e' hk' => ⟨fun t => pos k e' hk' (by omega), fun t => (hin k e' hk').2 (by omega)⟩))
        · refine ifF (by rw [m1]; exact q1) (tl_g2 hL ha ?_)
          have pos : ∀ (k : Nat) (e : tE), xs[k]? = some e → i ≤ k → κ < e.2.2.1 := by
            intro k e' hk' hki
            by_cases t : k = i
            · subst t; rw [hea] at hk'; cases hk'; omega
            · have := h6 i k ea e' (by omega) hea hk'; omega
          cases hb : S.1 ea.1 with
          | none =>
            have := a4 hb
            refine ifT rfl (ifF (by rw [m1]; exact q1) ⟨m, _, rfl, hL.1, tm_addL_ok (κ := κ) (by omega) hw hL hI hi0 hb (fun w' S' c1 n1 k1 i1 => ⟨_, rfl, _, rfl, ?_⟩)⟩)
            have hp : ∀ (k : Nat) (e : tE), xs[k]? = some e → (k < i → e.2.2.1 < κ) ∧ (i ≤ k → κ < e.2.2.1) := fun k e' hk' => ⟨fun t => (hin k e' hk').1 (by omega), fun t => pos k e' hk' t⟩
            exact H0 i w' (by omega) hp c1 n1 (tm_ins h' hw hk (by omega) hl hp c1 k1 i1)
          | some b =>
            obtain ⟨b1, b2, b3, b4⟩ := a5 b hb
            refine ifF (by simp) (ih b b1 (by omega) (fun k e' hk' => ⟨fun t => (hin k e' hk').1 (by omega), fun t => pos k e' hk' (by omega)⟩))
    obtain ⟨t1, t2, t3, t4⟩ := hT.2.2.1 r0 hr
    refine key xs.length r0 t1 (by omega) (fun k e' hk' => ⟨fun t => by omega, fun t => ?_⟩)
    have := (List.getElem?_eq_some_iff.mp hk').1
    omega
/-- a new map -/
theorem tm_init_ok {K : pw_W → Prop} {x4 x5 : Int32} {x2 : Option Nat} {x0 x1 x6 x8 : Value} (hd : 2 ≤ d) (hw : wf E w) (hm : w.1 m = some (22, [x0, x1, va_rf x2, va_rf none, .int x4, .int x5, x6, va_rf none, x8])) (hb : pw_base E ≤ m) (H : ∀ w', cx E w w' (fun q => q = m) 0 → w'.2 = w.2 → c_tm E τ w'.1 w'.1 m 0 none [] → K w') : pw_Cl E m_J18_init d [va_rf (some m)] w (c_v K) := by
  replace hd := pw_d1 hd; obtain ⟨e, rfl, hd⟩ := hd
  replace hd := pw_d1 hd; obtain ⟨e, rfl, hd⟩ := hd
  refine e_J18_init _ (s_J18_init_0 _ (e_J17_init _ (s_J17_init_0 _ ⟨rfl, m, _, rfl, hm, hb, m, _, rfl, pw_up_1 _ _ _, hb, m, _, rfl, pw_up_1 _ _ _, hb, ?_⟩)))
  rw [pw_up_up, pw_up_up]
  refine ⟨rfl, H _ (cx.up hw _ hm hb rfl) rfl ⟨⟨x0, x1, x6, x8, ((fun _ => none), (fun _ => none), (fun _ => none), (fun _ => true), none), ⟨pw_up_1 _ _ _, hb, fun e he => (by cases he)⟩, ⟨fun _ => 0, fun _ => 0, List.Pairwise.nil, fun i a ha => (by simp [t_ids] at ha), fun a ha => (by cases ha), fun _ => rfl⟩⟩, fun e he => (by cases he), fun i j e f _ he => (by simp at he), Nat.zero_le _⟩⟩
theorem tm_size_ok {K : Int32 → pw_W → Prop} (hd : 1 ≤ d) (h : c_tm E τ w.1 w.1 m mc ks xs) (H : K (iI xs.length) w) : pw_Cl E m_J18_size d [va_rf (some m)] w (c_i K) := by
  replace hd := pw_d1 hd; obtain ⟨e, rfl, hd⟩ := hd
  obtain ⟨⟨x0, x1, x6, x8, S, hL, hI⟩, -⟩ := h
  exact e_J18_size _ (s_J18_size_0 _ ⟨m, _, _, rfl, hL.1, rfl, _, rfl, H⟩)
end
