set_option maxRecDepth 100000
/-! the component: counts put, entries got, put, seen -/
section
variable {E : pw_E} {d : Nat} {w w' u : pw_W} {m : Nat} {mc : Int32} {ks : Option Nat} {xs : List tE} {Q : Int → qT} {P : Int → Prop} {N : Int → Int}
theorem t_F_ins {c : Nat} {κ : Int} {vv : Option Nat} {j : Nat} {b : Nat} : ∀ q, t_F m (xs.take j ++ (b, c, κ, vv) :: xs.drop j) q → t_F m xs q ∨ q = b := by
  rintro q (rfl | ⟨e, he, rfl⟩)
  · exact Or.inl (Or.inl rfl)
  · rcases t_ins_mem.mp he with rfl | he
    · exact Or.inr rfl
    · exact Or.inl (Or.inr ⟨e, he, rfl⟩)
theorem t_set_mem {i : Nat} {e0 e' f : tE} (hi : xs[i]? = some e0) (h : f ∈ xs.set i e') : f = e' ∨ (f ∈ xs ∧ ∃ j, j ≠ i ∧ xs[j]? = some f) := by
  obtain ⟨j, hj⟩ := List.getElem?_of_mem h
  have hil := (List.getElem?_eq_some_iff.mp hi).1
  by_cases z : j = i
  · subst z
    rw [List.getElem?_set_self hil] at hj
    exact Or.inl (Option.some.inj hj).symm
  · rw [List.getElem?_set_ne (Ne.symm z)] at hj
    exact Or.inr ⟨List.mem_of_getElem? hj, j, z, hj⟩
theorem t_set_mem' {i : Nat} {e0 e' f : tE} (hi : xs[i]? = some e0) (h : f ∈ xs) : f = e0 ∨ f ∈ xs.set i e' := by
  obtain ⟨j, hj⟩ := List.getElem?_of_mem h
  by_cases z : j = i
  · subst z
    rw [hi] at hj
    exact Or.inl (Option.some.inj hj).symm
  · exact Or.inr (List.mem_of_getElem? (by rw [List.getElem?_set_ne (Ne.symm z)]; exact hj))
/-- keys are apart -/
theorem c_tm.key_inj {τ : Bool} {h : pw_H} (k : c_tm E τ h h m mc ks xs) {e f : tE} (he : e ∈ xs) (hf : f ∈ xs) (hκ : e.2.2.1 = f.2.2.1) : e = f := by
  obtain ⟨i, hi⟩ := List.getElem?_of_mem he
  obtain ⟨j, hj⟩ := List.getElem?_of_mem hf
  obtain ⟨-, -, k3, -⟩ := k
  rcases Nat.lt_trichotomy i j with q | q | q
  · have := k3 i j e f q hi hj; omega
  · subst q; rw [hi] at hj; exact Option.some.inj hj
  · have := k3 j i f e q hj hi; omega
theorem hm_put_ok {c b : Nat} {κ : Int} {K : Option Nat → pw_W → Prop} (hd : 12 ≤ d) (hw : wf E w) (h : c_hm E w.1 m mc ks xs N) (hk : c_key false w.1 c κ) (hb : c_box w.1 b (N κ + 1)) (hl : xs.length < 100000) (hN : 0 ≤ N κ)
    (H : ∀ (w' : pw_W) (mc' : Int32) (xs' : List tE) (o : Option Nat), cx E w w' (t_F m xs) 10 → (∀ q, t_F m xs' q → t_F m xs q ∨ w.2.1 ≤ q) → xs'.length ≤ xs.length + 1 → c_hm E w'.1 m mc' ks xs' (fun k => if k = κ then N κ + 1 else N k) → K o w') : pw_Cl E m_J18_put d [va_rf (some m), va_rf (some c), va_rf (some b)] w (c_r K) := by
  obtain ⟨h1, h2, h3⟩ := h
  have hK := t_F_ok h1
  refine tm_put_ok hd hw h1 hk hl (fun i e w' he hκ z n1 k1 => ?_) (fun j w' hj hp z n1 k1 => ?_)
  · have hem := List.mem_of_getElem? he
    have z' : cx E w w' (t_F m xs) 10 := z.mono (fun a o _ q => Or.inr ⟨e, hem, q⟩) (by omega)
    refine H w' mc _ _ z' (fun q hq => Or.inl ?_) (by rw [List.length_set]; omega) ⟨k1, fun f hf => ?_, fun k => ?_⟩
    · rcases hq with q1 | ⟨f, hf, q1⟩
      · exact Or.inl q1
      · rcases t_set_mem he hf with rfl | ⟨hf, -⟩
        · exact Or.inr ⟨e, hem, q1⟩
        · exact Or.inr ⟨f, hf, q1⟩
    · rcases t_set_mem he hf with rfl | ⟨hf, j, hj, hj'⟩
      · refine ⟨b, rfl, ?_⟩
        show c_box w'.1 b (if e.2.2.1 = κ then _ else _)
        rw [if_pos hκ]
        exact z'.keep hb (fun q => (hK _ _ hb q).2.1 rfl)
      · obtain ⟨a, a1, a2⟩ := h2 f hf
        refine ⟨a, a1, ?_⟩
        have hne : ¬ f.2.2.1 = κ := fun q => by
          have := h1.key_inj hf hem (q.trans hκ.symm)
          subst this
          obtain ⟨⟨x0, x1, x6, x8, S, hL, lo, hi, hT⟩, -⟩ := h1
          exact hj (nd_ix hT.1 (t_id_ix hj') (t_id_ix he))
        show c_box w'.1 a (if f.2.2.1 = κ then _ else _)
        rw [if_neg hne]
        exact z'.keep a2 (fun q => (hK _ _ a2 q).2.1 rfl)
    · constructor
      · rintro ⟨f, hf, rfl⟩
        rcases t_set_mem he hf with rfl | ⟨hf, -⟩
        · show 0 < if e.2.2.1 = κ then _ else _
          rw [if_pos hκ]
          omega
        · have := (h3 _).mp ⟨f, hf, rfl⟩
          show 0 < if f.2.2.1 = κ then N κ + 1 else N f.2.2.1
          split <;> omega
      · intro hk'
        by_cases q : k = κ
        · exact ⟨_, List.mem_of_getElem? (List.getElem?_set_self (List.getElem?_eq_some_iff.mp he).1), hκ.trans q.symm⟩
        · have hk' : 0 < (if k = κ then N κ + 1 else N k) := hk'
          rw [if_neg q] at hk'
          obtain ⟨f, hf, hfk⟩ := (h3 k).mpr hk'
          rcases t_set_mem' (e' := (e.1, e.2.1, e.2.2.1, some b)) he hf with rfl | hf
          · exact absurd (hfk.symm.trans hκ) q
          · exact ⟨f, hf, hfk⟩
  · have hNe : ∀ f ∈ xs, f.2.2.1 ≠ κ := by
      intro f hf
      obtain ⟨i, hi⟩ := List.getElem?_of_mem hf
      have := hp i f hi
      rcases Nat.lt_or_ge i j with q | q
      · have := this.1 q; omega
      · have := this.2 q; omega
    refine H w' (mc + 1) _ _ z (fun q hq => (t_F_ins q hq).imp id (fun e => by omega)) (by simp; omega) ⟨k1, fun f hf => ?_, fun k => ?_⟩
    · rcases t_ins_mem.mp hf with rfl | hf
      · refine ⟨b, rfl, ?_⟩
        show c_box w'.1 b (if κ = κ then _ else _)
        rw [if_pos rfl]
        exact z.keep hb (fun q => (hK _ _ hb q).2.1 rfl)
      · obtain ⟨a, a1, a2⟩ := h2 f hf
        refine ⟨a, a1, ?_⟩
        show c_box w'.1 a (if f.2.2.1 = κ then _ else _)
        rw [if_neg (hNe f hf)]
        exact z.keep a2 (fun q => (hK _ _ a2 q).2.1 rfl)
    · constructor
      · rintro ⟨f, hf, rfl⟩
        rcases t_ins_mem.mp hf with rfl | hf
        · show 0 < if κ = κ then _ else _
          rw [if_pos rfl]
          omega
        · have := (h3 _).mp ⟨f, hf, rfl⟩
          show 0 < if f.2.2.1 = κ then N κ + 1 else N f.2.2.1
          split <;> omega
      · intro hk'
        by_cases q : k = κ
        · exact ⟨_, t_ins_mem.mpr (Or.inl rfl), q.symm⟩
        · have hk' : 0 < (if k = κ then N κ + 1 else N k) := hk'
          rw [if_neg q] at hk'
          obtain ⟨f, hf, hfk⟩ := (h3 k).mpr hk'
          exact ⟨f, t_ins_mem.mpr (Or.inr hf), hfk⟩
theorem hm_get_ok {c : Nat} {κ : Int} {K : Option Nat → pw_W → Prop} (hd : 9 ≤ d) (hw : wf E w) (h : c_hm E w.1 m mc ks xs N) (hk : c_key false w.1 c κ) (H1 : ∀ b : Nat, 0 < N κ → c_box w.1 b (N κ) → K (some b) w) (H0 : ¬ 0 < N κ → K none w) : pw_Cl E m_J18_get d [va_rf (some m), va_rf (some c)] w (c_r K) := by
  obtain ⟨h1, h2, h3⟩ := h
  refine tm_get_ok hd hw h1 hk (fun i e he hκ => ?_) (fun h0 => ?_)
  · obtain ⟨a, a1, a2⟩ := h2 e (List.mem_of_getElem? he)
    rw [a1]
    rw [hκ] at a2
    exact H1 a ((h3 κ).mp ⟨e, List.mem_of_getElem? he, hκ⟩) a2
  · refine H0 (fun q => ?_)
    obtain ⟨e, he, hκ⟩ := (h3 κ).mpr q
    obtain ⟨i, hi⟩ := List.getElem?_of_mem he
    exact h0 i e hi hκ
theorem om_get_ok {c : Nat} {κ : Int} {K : Option Nat → pw_W → Prop} (hd : 9 ≤ d) (hw : wf E w) (h : c_om E w.1 m mc ks xs Q P) (hk : c_key false w.1 c κ) (H1 : ∀ (e : tE) (a : Nat), e ∈ xs → e.2.2.1 = κ → e.2.2.2 = some a → pw_base E ≤ a → c_ent w.1 a (Q κ) → K (some a) w) (H0 : ¬ P κ → K none w) : pw_Cl E m_J18_get d [va_rf (some m), va_rf (some c)] w (c_r K) := by
  obtain ⟨h1, h2, h3, h4⟩ := h
  refine tm_get_ok hd hw h1 hk (fun i e he hκ => ?_) (fun h0 => ?_)
  · obtain ⟨a, a1, a2, a3⟩ := h2 e (List.mem_of_getElem? he)
    rw [a1]
    rw [hκ] at a3
    exact H1 e a (List.mem_of_getElem? he) hκ a1 a2 a3
  · refine H0 (fun q => ?_)
    obtain ⟨e, he, hκ⟩ := (h4 κ).mpr q
    obtain ⟨i, hi⟩ := List.getElem?_of_mem he
    exact h0 i e hi hκ
theorem om_put_ok {c a : Nat} {κ : Int} {K : Option Nat → pw_W → Prop} (hd : 12 ≤ d) (hw : wf E w) (h : c_om E w.1 m mc ks xs Q P) (hk : c_key false w.1 c κ) (hP : ¬ P κ) (ha : c_ent w.1 a (Q κ)) (hab : pw_base E ≤ a) (hfr : ∀ e ∈ xs, e.2.2.2 ≠ some a) (hl : xs.length < 100000)
    (H : ∀ (w' : pw_W) (mc' : Int32) (xs' : List tE), cx E w w' (t_F m xs) 10 → (∀ q, oF m xs' q → oF m xs q ∨ q = a ∨ w.2.1 ≤ q) → xs'.length = xs.length + 1 → c_om E w'.1 m mc' ks xs' Q (fun k => P k ∨ k = κ) → K none w') : pw_Cl E m_J18_put d [va_rf (some m), va_rf (some c), va_rf (some a)] w (c_r K) := by
  obtain ⟨h1, h2, h3, h4⟩ := h
  have hK := t_F_ok h1
  have hk11 : ∀ (b : Nat) (q : qT), c_ent w.1 b q → ¬ t_F m xs b := by
    intro b q hb hf
    rcases h1.kind b _ hb hf with t | t
    · exact absurd (show (11 : Nat) = 22 from t) (by decide)
    · exact absurd (show (11 : Nat) = 23 from t) (by decide)
  refine tm_put_ok hd hw h1 hk hl (fun i e w' he hκ z n1 k1 => absurd ((h4 κ).mp ⟨e, List.mem_of_getElem? he, hκ⟩) hP) (fun j w' hj hp z n1 k1 => ?_)
  refine H w' (mc + 1) _ z (fun q hq => ?_) (by simp; omega) ⟨k1, fun f hf => ?_, fun f hf g hg hfg => ?_, fun k => ?_⟩
  · rcases hq with hq | ⟨f, hf, hq⟩
    · rcases t_F_ins q hq with t | t
      · exact Or.inl (Or.inl t)
      · exact Or.inr (Or.inr (by omega))
    · rcases t_ins_mem.mp hf with rfl | hf
      · exact Or.inr (Or.inl (Option.some.inj hq).symm)
      · exact Or.inl (Or.inr ⟨f, hf, hq⟩)
  · rcases t_ins_mem.mp hf with rfl | hf
    · exact ⟨a, rfl, hab, z.keep ha (hk11 _ _ ha)⟩
    · obtain ⟨b, b1, b2, b3⟩ := h2 f hf
      exact ⟨b, b1, b2, z.keep b3 (hk11 _ _ b3)⟩
  · rcases t_ins_mem.mp hf with rfl | hf
    · rcases t_ins_mem.mp hg with rfl | hg
      · rfl
      · exact absurd hfg.symm (hfr g hg)
    · rcases t_ins_mem.mp hg with rfl | hg
      · exact absurd hfg (hfr f hf)
      · exact h3 f hf g hg hfg
  · constructor
    · rintro ⟨f, hf, rfl⟩
      rcases t_ins_mem.mp hf with rfl | hf
      · exact Or.inr rfl
      · exact Or.inl ((h4 _).mp ⟨f, hf, rfl⟩)
    · rintro (q | q)
      · obtain ⟨f, hf, hfk⟩ := (h4 k).mpr q
        exact ⟨f, t_ins_mem.mpr (Or.inr hf), hfk⟩
      · exact ⟨_, t_ins_mem.mpr (Or.inl rfl), q.symm⟩
/-- an entry of the index sees a version -/
theorem om_sees_ok {a : Nat} {e0 : tE} {i x t : Int} {K : pw_W → Prop} (hd : 1 ≤ d) (hw : wf E w) (h : c_om E w.1 m mc ks xs Q P) (he : e0 ∈ xs) (ha : e0.2.2.2 = some a) (hQ : ixq_ok Q) (hx : 0 ≤ x ∧ x ≤ 1000) (ht : 0 ≤ t ∧ t ≤ 1000)
    (H : ∀ w', cx E w w' (fun z => z = a) 0 → w'.2 = w.2 → c_om E w'.1 m mc ks xs (fun k => if k = e0.2.2.1 then ix_see i x t (Q k) else Q k) P → K w') : pw_Cl E m_X12_sees d [va_rf (some a), .int (iI i), .int (iI x), .int (iI t)] w (c_v K) := by
  obtain ⟨h1, h2, h3, h4⟩ := h
  obtain ⟨b, b1, b2, b3⟩ := h2 e0 he
  rw [ha] at b1
  cases b1
  have hq := hQ e0.2.2.1
  refine ce_sees_ok hd hw b3 b2 ⟨hq.2.1, hq.2.2.1, hq.2.2.2⟩ hx ht (fun w' z n1 k1 => H w' z n1 ?_)
  have hk : ∀ (c : Nat) (o : pw_O), w.1 c = some o → c = a → o.1 ≠ 21 ∧ o.1 ≠ 28 ∧ o.1 ≠ 1001 := by
    intro c o hc hca
    subst hca
    have b3 : w.1 c = _ := b3
    rw [b3] at hc
    cases hc
    exact ⟨(by decide : (11 : Nat) ≠ 21), (by decide : (11 : Nat) ≠ 28), (by decide : (11 : Nat) ≠ 1001)⟩
  have hnF : ¬ t_F m xs a := fun hf => by
    rcases h1.kind a _ b3 hf with t | t
    · exact absurd (show (11 : Nat) = 22 from t) (by decide)
    · exact absurd (show (11 : Nat) = 23 from t) (by decide)
  refine ⟨h1.keep z (fun q => hnF (Or.inl q.symm)) (fun e he' q => hnF (Or.inr ⟨e, he', q.symm⟩)) hk, fun f hf => ?_, h3, h4⟩
  by_cases q : f = e0
  · subst q
    refine ⟨a, ha, b2, ?_⟩
    show c_ent w'.1 a (if f.2.2.1 = f.2.2.1 then _ else _)
    rw [if_pos rfl]
    exact k1
  · obtain ⟨c, c1, c2, c3⟩ := h2 f hf
    refine ⟨c, c1, c2, ?_⟩
    show c_ent w'.1 c (if f.2.2.1 = e0.2.2.1 then _ else _)
    rw [if_neg (fun t => q (h1.key_inj hf he t))]
    exact z.keep c3 (fun t => q (h3 f hf e0 he (by rw [c1, ha, t])))
end
