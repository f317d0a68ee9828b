set_option maxRecDepth 100000
/-! the component: archives -/
def c_arch (E : pw_E) (z p : pw_H) (a : Nat) (Ds : List dc) (t : Int) : Prop :=
  ∃ (ld bd cd : Nat) (md : Int32) (as : List Nat), p a = some (4, [va_rf (some ld), .int (iI t)]) ∧ c_al E p ld md bd cd (as.map some) ∧
    (as.length = Ds.length ∧ ∀ (i b : Nat) (D : dc), as[i]? = some b → Ds[i]? = some D → c_doc E z p b D) ∧ pw_base E ≤ a
theorem c_arch.mono {E : pw_E} {z p z' p' : pw_H} {a : Nat} {Ds : List dc} {t : Int} (k : c_arch E z p a Ds t) (hz : c_sub z z') (hp : c_sub p p') : c_arch E z' p' a Ds t := by
  obtain ⟨ld, bd, cd, md, as, h1, h2, ⟨h3, h4⟩, h5⟩ := k
  exact ⟨ld, bd, cd, md, as, hp _ _ h1, h2.mono hp, ⟨h3, fun i b D e f => (h4 i b D e f).mono hz hp⟩, h5⟩
theorem c_arch.obj {E : pw_E} {z p : pw_H} {a : Nat} {Ds : List dc} {t : Int} (k : c_arch E z p a Ds t) : ∃ us, p a = some (4, us) := by
  obtain ⟨ld, bd, cd, md, as, h1, -⟩ := k
  exact ⟨_, h1⟩
def da_ok (Ds : List dc) : Prop := Ds.length ≤ 4 ∧ ∀ D ∈ Ds, dc_ok D ∧ 1 ≤ D.1.length ∧ D.1.length ≤ 10 ∧ dc_ends D
def da_D (Ds : List dc) (i : Nat) : dc := Ds.getD i ([], [], [])
theorem da_ok.at {Ds : List dc} (k : da_ok Ds) {i : Nat} {D : dc} (h : Ds[i]? = some D) : i < Ds.length ∧ Ds.length ≤ 4 ∧ da_D Ds i = D ∧ dc_ok D ∧ 1 ≤ D.1.length ∧ D.1.length ≤ 10 ∧ dc_ends D := by
  obtain ⟨h1, h2⟩ := k
  obtain ⟨g1, g2, g3, g4⟩ := h2 D (List.mem_of_getElem? h)
  exact ⟨(List.getElem?_eq_some_iff.mp h).1, h1, dc_getD h, g1, g2, g3, g4⟩
section
variable {E : pw_E} {d : Nat} {w : pw_W} {a : Nat} {Ds : List dc} {t : Int}
theorem ca_many_ok {K : Int32 → pw_W → Prop} (hd : 2 ≤ d) (h : c_arch E w.1 w.1 a Ds t) (H : K (iI Ds.length) w) : pw_Cl E m_X5_many d [va_rf (some a)] w (c_i K) := by
  replace hd := pw_d1 hd; obtain ⟨e, rfl, hd⟩ := hd
  obtain ⟨ld, bd, cd, md, as, h1, h2, ⟨h3, h4⟩, h5⟩ := h
  refine e_X5_many _ (s_X5_many_0 _ ⟨a, _, _, rfl, h1, rfl, ld, _, rfl, h2.1, cl_size_ok (by omega) h2 ⟨_, rfl, ?_⟩⟩)
  rw [List.length_map, h3]
  exact H
theorem qa_many {e : Nat} {K : Int32 → pw_W → Prop} (hd : 2 ≤ e) (h : c_arch E w.1 w.1 a Ds t) (H : K (iI Ds.length) w) : f_V E w (some a) 4 m_X5_many e [] (c_i K) := by
  obtain ⟨us, hu⟩ := h.obj
  exact ⟨a, us, rfl, hu, ca_many_ok hd h H⟩
theorem ca_is_ok {i : Int} {K : Bool → pw_W → Prop} (hd : 3 ≤ d) (h : c_arch E w.1 w.1 a Ds t) (hl : Ds.length ≤ 1000) (hi : rI i) (H : K (decide (0 ≤ i ∧ i ≤ (Ds.length : Int) - 1)) w) : pw_Cl E m_X5_is d [va_rf (some a), .int (iI i)] w (c_z K) := by
  replace hd := pw_d1 hd; obtain ⟨e, rfl, hd⟩ := hd
  refine e_X5_is _ _ (s_X5_is_0 _ _ (qa_many (by omega) h ?_))
  have e1 : iI Ds.length - 1 = iI ((Ds.length : Int) - 1) := iI_sub _ 1
  rw [e1]
  exact c_isIn0_ok (by omega) hi (rI_small (by omega) (by omega)) ⟨_, rfl, H⟩
/-- a document, read out of the list -/
theorem qa_get {e i : Nat} {D : dc} {K : Option Nat → pw_W → Prop} (hd : 3 ≤ e) (h : c_arch E w.1 w.1 a Ds t) (hi : Ds[i]? = some D) (H : ∀ b : Nat, c_doc E w.1 w.1 b D → K (some b) w) :
    f_getr w (some a) 4 0 (fun x1 => f_V E w x1 18 m_J2_get e [.int (iI (i : Nat))] (c_r (fun o6 w5 => f_cast w5 o6 "VersionSearch$Document" (K o6 w5)))) := by
  obtain ⟨ld, bd, cd, md, as, h1, h2, ⟨h3, h4⟩, h5⟩ := h
  have hl := (List.getElem?_eq_some_iff.mp hi).1
  obtain ⟨b, b1, b2⟩ := dc_map (l := as) (i := i) (by omega)
  have hb := h4 i b D b1 hi
  obtain ⟨us, hu⟩ := hb.obj
  exact ⟨a, _, _, rfl, h1, rfl, ld, _, rfl, h2.1, cl_get_ok hd h2 b2 ⟨Or.inr ⟨b, 6, us, rfl, hu, c_canD⟩, H b hb⟩⟩
theorem ca_of_ok {i : Nat} {D : dc} {K : Option Nat → pw_W → Prop} (hd : 4 ≤ d) (h : c_arch E w.1 w.1 a Ds t) (hi : Ds[i]? = some D) (H : ∀ b : Nat, c_doc E w.1 w.1 b D → K (some b) w) : pw_Cl E m_X5_of d [va_rf (some a), .int (iI (i : Nat))] w (c_r K) := by
  replace hd := pw_d1 hd; obtain ⟨e, rfl, hd⟩ := hd
  exact e_X5_of _ _ (s_X5_of_0 _ _ (qa_get (by omega) h hi (fun b hb => ⟨_, rfl, H b hb⟩)))
theorem qa_of {e i : Nat} {D : dc} {K : Option Nat → pw_W → Prop} (hd : 4 ≤ e) (h : c_arch E w.1 w.1 a Ds t) (hi : Ds[i]? = some D) (H : ∀ b : Nat, c_doc E w.1 w.1 b D → K (some b) w) : f_V E w (some a) 4 m_X5_of e [.int (iI (i : Nat))] (c_r K) := by
  obtain ⟨us, hu⟩ := h.obj
  exact ⟨a, us, rfl, hu, ca_of_ok hd h hi H⟩
def da_isVer (Ds : List dc) (i v : Int) : Bool := decide (0 ≤ i ∧ i ≤ (Ds.length : Int) - 1) && decide (0 ≤ v ∧ v ≤ ((da_D Ds i.toNat).1.length : Int) - 1)
theorem ca_isVersion_ok {i v : Int} {K : Bool → pw_W → Prop} (hd : 5 ≤ d) (h : c_arch E w.1 w.1 a Ds t) (hD : da_ok Ds) (hi : rI i) (hv : rI v) (H : K (da_isVer Ds i v) w) : pw_Cl E m_X5_isVersion d [va_rf (some a), .int (iI i), .int (iI v)] w (c_z K) := by
  replace hd := pw_d1 hd; obtain ⟨e, rfl, hd⟩ := hd
  have hl := hD.1
  obtain ⟨us, hu⟩ := h.obj
  unfold da_isVer at H
  refine e_X5_isVersion _ _ _ (s_X5_isVersion_0 _ _ _ ⟨a, us, rfl, hu, ca_is_ok (by omega) h (by omega) hi ?_⟩)
  by_cases q : 0 ≤ i ∧ i ≤ (Ds.length : Int) - 1
  · rw [decide_eq_true q] at H ⊢
    rw [Bool.true_and] at H
    obtain ⟨D, hd1⟩ := dc_get (l := Ds) (i := i.toNat) (by omega)
    obtain ⟨g1, g2, g3, g4, g5, g6, g7⟩ := hD.at hd1
    rw [g3] at H
    have ei : iI i = iI ((i.toNat : Nat) : Int) := by rw [Int.toNat_of_nonneg q.1]
    refine ifF (by decide) ?_
    rw [ei]
    refine qa_get (by omega) h hd1 (fun b hb => ?_)
    obtain ⟨us, hu⟩ := hb.obj
    refine ⟨b, us, rfl, hu, cd_is_ok (by omega) hb g4 hv ?_⟩
    by_cases y : 0 ≤ v ∧ v ≤ (D.1.length : Int) - 1
    · rw [decide_eq_true y] at H ⊢
      exact ifF (by decide) ⟨true, rfl, H⟩
    · rw [decide_eq_false y] at H ⊢
      exact ifT (by decide) ⟨false, rfl, H⟩
  · rw [decide_eq_false q] at H ⊢
    rw [Bool.false_and] at H
    exact ifT (by decide) ⟨false, rfl, H⟩
/-- of all versions, together -/
def da_sum (Ds : List dc) (F : Nat → Nat → Int) : Int := upto Ds.length (fun i (n : Int) => upto (da_D Ds i).1.length (fun v (n : Int) => n + F i v) n) 0
def da_cnt (Ds : List dc) (i : Nat) : Nat := upto i (fun i (n : Nat) => n + (da_D Ds i).1.length) 0
theorem ca_all_ok {c : Nat} {F : Nat → Nat → Int} {I : Nat → pw_W → Prop} {K : Int32 → pw_W → Prop} (hd : 5 ≤ d) (hD : da_ok Ds) (hI : I 0 w) (hA : ∀ k u, I k u → c_arch E u.1 u.1 a Ds t)
    (hF : ∀ (k : Nat) (u : pw_W) (i v : Nat) (D : dc) (Q : Int32 → pw_W → Prop), I k u → Ds[i]? = some D → v < D.1.length → (∀ u', I (k + 1) u' → Q (iI (F i v)) u') → f_F E u (some c) ⟨"VersionSearch$Count", "of", "(II)I"⟩ (some .int) d [.int (iI (i : Nat)), .int (iI (v : Nat))] (c_i Q))
    (H : ∀ u, I (da_cnt Ds Ds.length) u → K (iI (da_sum Ds F)) u) : pw_Cl E m_X5_all (d + 1) [va_rf (some a), va_rf (some c)] w (c_i K) := by
  have hl := hD.1
  refine e_X5_all _ _ (s_X5_all_0 _ _ ?_)
  have key : ∀ (f i : Nat) (u : pw_W), i + f = Ds.length → I (da_cnt Ds i) u → pw_Wp E m_X5_all (d + 1) 4 [some (va_rf (some a)), some (va_rf (some c)), some (.int (iI (upto i (fun i (n : Int) => upto (da_D Ds i).1.length (fun v (n : Int) => n + F i v) n) 0))), some (.int (iI (i : Nat))), none] [] u (c_i K) := by
    intro f
    induction f with
    | zero =>
      intro i u hi hu
      refine s_X5_all_4 _ _ _ _ (qa_many (by omega) (hA _ _ hu) (ifT (by rw [iI_len (by omega) (by omega)]; omega) ⟨_, rfl, ?_⟩))
      have : i = Ds.length := by omega
      subst this
      exact H u hu
    | succ f ih =>
      intro i u hi hu
      obtain ⟨D, hD1⟩ := dc_get (l := Ds) (i := i) (by omega)
      obtain ⟨g1, g2, g3, g4, g5, g6, g7⟩ := hD.at hD1
      refine s_X5_all_4 _ _ _ _ (qa_many (by omega) (hA _ _ hu) (ifF (by rw [iI_len (by omega) (by omega)]; omega) ?_))
      have nx := fun u' => ih (i + 1) u' (by omega)
      have ec : da_cnt Ds (i + 1) = da_cnt Ds i + D.1.length := by
        unfold da_cnt
        rw [upto_s, g3]
      simp only [upto_s, g3, ec] at nx
      generalize upto i (fun i (n : Int) => upto (da_D Ds i).1.length (fun v (n : Int) => n + F i v) n) 0 = n0 at nx ⊢
      have inn : ∀ (g v : Nat) (u' : pw_W), v + g = D.1.length → I (da_cnt Ds i + v) u' → pw_Wp E m_X5_all (d + 1) 15 [some (va_rf (some a)), some (va_rf (some c)), some (.int (iI (upto v (fun v (n : Int) => n + F i v) n0))), some (.int (iI (i : Nat))), some (.int (iI (v : Nat)))] [] u' (c_i K) := by
        intro g
        induction g with
        | zero =>
          intro v u' hv hu'
          refine s_X5_all_15 _ _ _ _ _ (qa_of (by omega) (hA _ _ hu') hD1 (fun b hb => dq_many (by omega) hb (ifT (by rw [iI_len (by omega) (by omega)]; omega) ?_)))
          have : v = D.1.length := by omega
          subst this
          rw [iI_ad1]
          exact nx u' hu'
        | succ g ih2 =>
          intro v u' hv hu'
          refine s_X5_all_15 _ _ _ _ _ (qa_of (by omega) (hA _ _ hu') hD1 (fun b hb => dq_many (by omega) hb (ifF (by rw [iI_len (by omega) (by omega)]; omega) (hF _ _ i v D _ hu' hD1 (by omega) (fun u'' hu'' => ?_)))))
          have nx2 := ih2 (v + 1) u'' (by omega) hu''
          rw [upto_s] at nx2
          rw [iI_add, iI_ad1]
          exact nx2
      exact inn D.1.length 0 u (by omega) hu
  exact key Ds.length 0 w (by omega) hI
theorem qa_all {c e : Nat} {F : Nat → Nat → Int} {I : Nat → pw_W → Prop} {K : Int32 → pw_W → Prop} (hd : 5 ≤ e) (hD : da_ok Ds) (hI : I 0 w) (hA : ∀ k u, I k u → c_arch E u.1 u.1 a Ds t)
    (hF : ∀ (k : Nat) (u : pw_W) (i v : Nat) (D : dc) (Q : Int32 → pw_W → Prop), I k u → Ds[i]? = some D → v < D.1.length → (∀ u', I (k + 1) u' → Q (iI (F i v)) u') → f_F E u (some c) ⟨"VersionSearch$Count", "of", "(II)I"⟩ (some .int) e [.int (iI (i : Nat)), .int (iI (v : Nat))] (c_i Q))
    (H : ∀ u, I (da_cnt Ds Ds.length) u → K (iI (da_sum Ds F)) u) : f_V E w (some a) 4 m_X5_all (e + 1) [va_rf (some c)] (c_i K) := by
  obtain ⟨us, hu⟩ := (hA _ _ hI).obj
  exact ⟨a, us, rfl, hu, ca_all_ok hd hD hI hA hF H⟩
theorem ca_versions_ok {K : Int32 → pw_W → Prop} (hd : 60 ≤ d) (hw : wf E w) (h : c_arch E w.1 w.1 a Ds t) (hD : da_ok Ds) (H : ∀ w', cx E w w' c_no 5 → K (iI (da_sum Ds (fun _ _ => 1))) w') : pw_Cl E m_X5_versions d [va_rf (some a)] w (c_i K) := by
  replace hd := pw_d1 hd; obtain ⟨e, rfl, hd⟩ := hd
  refine e_X5_versions _ (s_X5_versions_0 _ ⟨by omega, ?_⟩)
  have c1 : cx E w (pw_new w (2004, [va_rf (some a)]) 1) c_no 5 := cx.new hw _ 1
  replace hd := pw_d1 hd; obtain ⟨e, rfl, hd⟩ := hd
  replace hd := pw_d1 hd; obtain ⟨e, rfl, hd⟩ := hd
  replace hd := pw_d1 hd; obtain ⟨e, rfl, hd⟩ := hd
  refine qa_all (F := fun _ _ => 1) (I := fun _ u => u = pw_new w (2004, [va_rf (some a)]) 1) (t := t) (by omega) hD rfl (fun k u hu => ?_) (fun k u i v D Q hu hi hv q => ?_) (fun u hu => ?_)
  · subst hu
    exact h.mono c1.sub1 c1.sub1
  · subst hu
    obtain ⟨us, hu⟩ := h.obj
    exact lm_F4 (pw_new_1 _ _ _) (c1.at hu) (e_X5_one _ _ _ (s_X5_one_0 _ _ _ ⟨_, rfl, q _ rfl⟩))
  · subst hu
    exact ⟨_, rfl, H _ c1⟩
theorem ca_size_ok {K : Int32 → pw_W → Prop} (hd : 60 ≤ d) (hw : wf E w) (h : c_arch E w.1 w.1 a Ds t) (hD : da_ok Ds) (H : ∀ w', cx E w w' c_no 5 → K (iI (da_sum Ds (fun i v => dc_len (da_D Ds i) v))) w') : pw_Cl E m_X5_size d [va_rf (some a)] w (c_i K) := by
  replace hd := pw_d1 hd; obtain ⟨e, rfl, hd⟩ := hd
  refine e_X5_size _ (s_X5_size_0 _ ⟨by omega, ?_⟩)
  have c1 : cx E w (pw_new w (2005, [va_rf (some a)]) 1) c_no 5 := cx.new hw _ 1
  replace hd := pw_d1 hd; obtain ⟨e, rfl, hd⟩ := hd
  replace hd := pw_d1 hd; obtain ⟨e, rfl, hd⟩ := hd
  replace hd := pw_d1 hd; obtain ⟨e, rfl, hd⟩ := hd
  refine qa_all (F := fun i v => dc_len (da_D Ds i) v) (I := fun _ u => u = pw_new w (2005, [va_rf (some a)]) 1) (t := t) (by omega) hD rfl (fun k u hu => ?_) (fun k u i v D Q hu hi hv q => ?_) (fun u hu => ?_)
  · subst hu
    exact h.mono c1.sub1 c1.sub1
  · subst hu
    obtain ⟨us, hu⟩ := h.obj
    obtain ⟨g1, g2, g3, g4, g5, g6, g7⟩ := hD.at hi
    obtain ⟨row, hr⟩ := dc_get hv
    refine lm_F5 (pw_new_1 _ _ _) (c1.at hu) (e_X5_words _ _ _ (s_X5_words_0 _ _ _ (qa_of (by omega) (h.mono c1.sub1 c1.sub1) hi (fun b hb => dq_row (by omega) hb hr (fun r hr' => dq_len hr' ⟨_, rfl, ?_⟩)))))
    have := q _ rfl
    rw [g3, show dc_len D v = row.length by unfold dc_len dc_row; rw [dc_getD hr]] at this
    exact this
  · subst hu
    exact ⟨_, rfl, H _ c1⟩
/-- a loop over the documents, at its head -/
theorem qa_step {e k : Nat} {u : pw_W} {n ld bd cd : Nat} {md : Int32} {as : List Nat} {X : pw_W → Prop} {Y : Option Nat → pw_W → Prop} (hd : 2 ≤ e) (hw : wf E w) (h2 : c_al E w.1 ld md bd cd (as.map some)) (h4 : ∀ (i b : Nat) (D : dc), as[i]? = some b → Ds[i]? = some D → c_doc E w.1 w.1 b D) (hl : as.length = Ds.length) (c : cx E w u c_no n) {it : Nat} (hit : w.2.1 ≤ it) (i : c_it u.1 it k md ld) (hk : k ≤ Ds.length) (hX : k = Ds.length → X u)
    (hY : ∀ (u' : pw_W) (b : Nat) (D : dc), Ds[k]? = some D → cx E w u' c_no n → cx E u u' (fun q => q = it) 0 → c_it u'.1 it (k + 1) md ld → c_doc E u'.1 u'.1 b D → Y (some b) u') :
    f_V E u (some it) 19 m_J15_hasNext e [] (c_z (fun b w1 => (if bI b = 0 then X w1 else f_V E w1 (some it) 19 m_J15_next e [] (c_r (fun o7 w6 => f_cast w6 o7 "VersionSearch$Document" (Y o7 w6)))))) := by
  refine cl_step hd i (Nat.le_trans hw.b hit) (h2.mono c.sub1) (by simp; omega) (fun q => hX (by simp at q; omega)) (fun x o hx hi ho => ?_)
  have hkl := (List.getElem?_eq_some_iff.mp hx).1
  rw [List.length_map] at hkl
  have ht : as[k]? = some as[k] := List.getElem?_eq_getElem hkl
  rw [List.getElem?_map, ht] at hx
  cases hx
  obtain ⟨D, hD⟩ := dc_get (l := Ds) (i := k) (by omega)
  have c2 := i.cx hw c hit o
  obtain ⟨l, hl'⟩ := i
  have c3 : cx E u (pw_up u it o) (fun q => q = it) 0 := cx.up c.ok o hl' (Nat.le_trans hw.b hit) rfl
  have hdoc := (h4 k _ D ht hD).mono c2.sub1 c2.sub1
  obtain ⟨us, hu⟩ := hdoc.obj
  exact ⟨Or.inr ⟨as[k], 6, us, rfl, hu, c_canD⟩, hY _ _ D hD c2 c3 hi hdoc⟩
def da_toks (Ds : List dc) : Int := upto Ds.length (fun i (n : Int) => n + (da_D Ds i).2.1.length) 0
theorem ca_tokens_ok {K : Int32 → pw_W → Prop} (hd : 3 ≤ d) (hw : wf E w) (h : c_arch E w.1 w.1 a Ds t) (hD : da_ok Ds) (H : ∀ w', cx E w w' c_no 8 → K (iI (da_toks Ds)) w') : pw_Cl E m_X5_tokens d [va_rf (some a)] w (c_i K) := by
  replace hd := pw_d1 hd; obtain ⟨e, rfl, hd⟩ := hd
  obtain ⟨ld, bd, cd, md, as, h1, h2, ⟨h3, h4⟩, h5⟩ := h
  refine e_X5_tokens _ (s_X5_tokens_0 _ ⟨a, _, _, rfl, h1, rfl, ld, _, rfl, h2.1, cl_iterator_ok (by omega) hw h2 (fun w1 c1 n1 i1 => ?_)⟩)
  have key : ∀ (f k : Nat) (u : pw_W), k + f = Ds.length → cx E w u c_no 8 → c_it u.1 w.2.1 k md ld → pw_Wp E m_X5_tokens (e + 1) 10 [none, some (.int (iI (upto k (fun i (n : Int) => n + (da_D Ds i).2.1.length) 0))), some (va_rf (some w.2.1)), none] [] u (c_i K) := by
    intro f
    induction f with
    | zero =>
      intro k u hk c i
      refine s_X5_tokens_10 _ _ (qa_step (by omega) hw h2 h4 h3 c (Nat.le_refl _) i (by omega) (fun q => ⟨_, rfl, ?_⟩) (fun u' b D q => by have := (List.getElem?_eq_some_iff.mp q).1; omega))
      rw [q]
      exact H u c
    | succ f ih =>
      intro k u hk c i
      refine s_X5_tokens_10 _ _ (qa_step (by omega) hw h2 h4 h3 c (Nat.le_refl _) i (by omega) (fun q => by omega) (fun u' b D q c' c3 i' hb => ?_))
      have nx := ih (k + 1) u' (by omega) c' i'
      obtain ⟨g1, g2, g3, g4, g5, g6, g7⟩ := hD.at q
      rw [upto_s, g3] at nx
      obtain ⟨lv, lt, ld', bt, ct, mt, ts, t1, t3, t7, t8⟩ := hb.toks
      refine ⟨b, _, _, rfl, t1, rfl, lt, _, rfl, t3.1, cl_size_ok (by omega) t3 ?_⟩
      rw [List.length_map, t7, iI_add]
      exact nx
  exact key Ds.length 0 w1 (by omega) c1 i1
def da_post (Ds : List dc) : Int := upto Ds.length (fun i (n : Int) => n + dc_post (da_D Ds i)) 0
theorem ca_postings_ok {K : Int32 → pw_W → Prop} (hd : 7 ≤ d) (hw : wf E w) (h : c_arch E w.1 w.1 a Ds t) (hD : da_ok Ds) (H : ∀ w', cx E w w' c_no 40 → K (iI (da_post Ds)) w') : pw_Cl E m_X5_postings d [va_rf (some a)] w (c_i K) := by
  replace hd := pw_d1 hd; obtain ⟨e, rfl, hd⟩ := hd
  obtain ⟨ld, bd, cd, md, as, h1, h2, ⟨h3, h4⟩, h5⟩ := h
  have hl := hD.1
  refine e_X5_postings _ (s_X5_postings_0 _ ⟨a, _, _, rfl, h1, rfl, ld, _, rfl, h2.1, cl_iterator_ok (by omega) hw h2 (fun w1 c1 n1 i1 => ?_)⟩)
  have key : ∀ (f k : Nat) (u : pw_W), k + f = Ds.length → cx E w u c_no (8 + 8 * k) → c_it u.1 w.2.1 k md ld → pw_Wp E m_X5_postings (e + 1) 10 [none, some (.int (iI (upto k (fun i (n : Int) => n + dc_post (da_D Ds i)) 0))), some (va_rf (some w.2.1)), none] [] u (c_i K) := by
    intro f
    induction f with
    | zero =>
      intro k u hk c i
      refine s_X5_postings_10 _ _ (qa_step (by omega) hw h2 h4 h3 c (Nat.le_refl _) i (by omega) (fun q => ⟨_, rfl, ?_⟩) (fun u' b D q => by have := (List.getElem?_eq_some_iff.mp q).1; omega))
      subst q
      exact H u (c.le (by omega))
    | succ f ih =>
      intro k u hk c i
      refine s_X5_postings_10 _ _ (qa_step (by omega) hw h2 h4 h3 c (Nat.le_refl _) i (by omega) (fun q => by omega) (fun u' b D q c' c3 i' hb => ?_))
      obtain ⟨g1, g2, g3, g4, g5, g6, g7⟩ := hD.at q
      obtain ⟨us, hu⟩ := hb.obj
      refine ⟨b, us, rfl, hu, cd_postings_ok (by omega) c'.ok hb g6 (fun u2 c4 => ?_)⟩
      obtain ⟨l, hl'⟩ := i'
      have nx := ih (k + 1) u2 (by omega) ((c'.tr c4).le (by omega)) ⟨l, c4.at hl'⟩
      rw [upto_s, g3] at nx
      rw [iI_add]
      exact nx
  exact key Ds.length 0 w1 (by omega) c1 i1
def dc_last (D : dc) : Nat := dc_len D (D.1.length - 1)
def da_longest (Ds : List dc) : Int := upto Ds.length (fun i (b : Int) => if b = -1 then (i : Int) else if dc_last (da_D Ds i) ≤ dc_last (da_D Ds b.toNat) then b else (i : Int)) (-1)
theorem da_longest_r (Ds : List dc) (n : Nat) : upto n (fun i (b : Int) => if b = -1 then (i : Int) else if dc_last (da_D Ds i) ≤ dc_last (da_D Ds b.toNat) then b else (i : Int)) (-1) = -1 ∨ (0 ≤ upto n (fun i (b : Int) => if b = -1 then (i : Int) else if dc_last (da_D Ds i) ≤ dc_last (da_D Ds b.toNat) then b else (i : Int)) (-1) ∧ upto n (fun i (b : Int) => if b = -1 then (i : Int) else if dc_last (da_D Ds i) ≤ dc_last (da_D Ds b.toNat) then b else (i : Int)) (-1) < n) := by
  induction n with
  | zero => exact Or.inl rfl
  | succ n ih =>
    rw [upto_s]
    split
    · exact Or.inr ⟨by omega, by omega⟩
    · rename_i z
      have ih := ih.resolve_left z
      split
      · exact Or.inr ⟨by omega, by omega⟩
      · exact Or.inr ⟨by omega, by omega⟩
theorem qa_size {e i : Nat} {D : dc} {K : Int32 → pw_W → Prop} (hd : 5 ≤ e) (h : c_arch E w.1 w.1 a Ds t) (hD : da_ok Ds) (hi : Ds[i]? = some D) (H : K (iI (dc_last D)) w) : f_V E w (some a) 4 m_X5_of e [.int (iI (i : Nat))] (c_r (fun o7 w6 => f_V E w6 o7 6 m_X7_size e [] (c_i K))) := by
  obtain ⟨g1, g2, g3, g4, g5, g6, g7⟩ := hD.at hi
  obtain ⟨row, hr⟩ := dc_get (l := D.1) (i := D.1.length - 1) (by omega)
  refine qa_of (by omega) h hi (fun b hb => ?_)
  obtain ⟨us, hu⟩ := hb.obj
  refine ⟨b, us, rfl, hu, cd_size_ok (by omega) hb g4 hr ?_⟩
  unfold dc_last dc_len dc_row at H
  rw [dc_getD hr] at H
  exact H
theorem dc_last_le {D : dc} (hD : dc_ok D) (h1 : 1 ≤ D.1.length) : dc_last D ≤ 1000 := by
  obtain ⟨row, hr⟩ := dc_get (l := D.1) (i := D.1.length - 1) (by omega)
  have := (hD.row hr).1
  unfold dc_last dc_len dc_row
  rw [dc_getD hr]
  exact this
theorem ca_longest_ok {K : Int32 → pw_W → Prop} (hd : 6 ≤ d) (h : c_arch E w.1 w.1 a Ds t) (hD : da_ok Ds) (H : K (iI (da_longest Ds)) w) : pw_Cl E m_X5_longest d [va_rf (some a)] w (c_i K) := by
  replace hd := pw_d1 hd; obtain ⟨e, rfl, hd⟩ := hd
  have hl := hD.1
  refine e_X5_longest _ (s_X5_longest_0 _ ?_)
  have key : ∀ (f k : Nat), k + f = Ds.length → pw_Wp E m_X5_longest (e + 1) 4 [some (va_rf (some a)), some (.int (iI (upto k (fun i (b : Int) => if b = -1 then (i : Int) else if dc_last (da_D Ds i) ≤ dc_last (da_D Ds b.toNat) then b else (i : Int)) (-1)))), some (.int (iI (k : Nat)))] [] w (c_i K) := by
    intro f
    induction f with
    | zero =>
      intro k hk
      refine s_X5_longest_4 _ _ _ (qa_many (by omega) h (ifT (by rw [iI_len (by omega) (by omega)]; omega) ⟨_, rfl, ?_⟩))
      have : k = Ds.length := by omega
      subst this
      exact H
    | succ f ih =>
      intro k hk
      have nx := ih (k + 1) (by omega)
      rw [upto_s] at nx
      have hr := da_longest_r Ds k
      generalize upto k (fun i (b : Int) => if b = -1 then (i : Int) else if dc_last (da_D Ds i) ≤ dc_last (da_D Ds b.toNat) then b else (i : Int)) (-1) = b at nx hr ⊢
      obtain ⟨D, hd1⟩ := dc_get (l := Ds) (i := k) (by omega)
      obtain ⟨g1, g2, g3, g4, g5, g6, g7⟩ := hD.at hd1
      rw [g3] at nx
      have m1 : (iI b = -1) = (b = -1) := iI_eq (b := -1) (rI_small (by omega) (by omega)) (rI_small (by omega) (by omega))
      refine s_X5_longest_4 _ _ _ (qa_many (by omega) h (ifF (by rw [iI_len (by omega) (by omega)]; omega) ?_))
      by_cases z : b = -1
      · rw [if_pos z] at nx
        refine ifT (by rw [m1]; exact z) ?_
        rw [iI_ad1]
        exact nx
      · rw [if_neg z] at nx
        have hr := hr.resolve_left z
        obtain ⟨D', hd2⟩ := dc_get (l := Ds) (i := b.toNat) (by omega)
        obtain ⟨g1', g2', g3', g4', g5', g6', g7'⟩ := hD.at hd2
        rw [g3'] at nx
        have eb : iI b = iI ((b.toNat : Nat) : Int) := by rw [Int.toNat_of_nonneg hr.1]
        refine ifF (by rw [m1]; exact z) (qa_size (by omega) h hD hd1 ?_)
        rw [eb]
        refine qa_size (by omega) h hD hd2 ?_
        rw [← eb]
        have r1 := dc_last_le g4 g5
        have r2 := dc_last_le g4' g5'
        by_cases y : dc_last D ≤ dc_last D'
        · rw [if_pos y] at nx
          refine ifT (by rw [iI_len (by omega) (by omega)]; exact y) ?_
          rw [iI_ad1]
          exact nx
        · rw [if_neg y] at nx
          refine ifF (by rw [iI_len (by omega) (by omega)]; exact y) ?_
          rw [iI_ad1]
          exact nx
  exact key Ds.length 0 (by omega)
def da_likeP (Ds : List dc) (i v j u : Nat) : Int := if (i < j ∨ (j = i ∧ v < u)) ∧ dc_like (da_D Ds i) v (da_D Ds j) u = true then 1 else 0
theorem ca_likesL_ok {i v j u : Nat} {D D' : dc} {K : Int32 → pw_W → Prop} (hd : 6 ≤ d) (hw : wf E w) (h : c_arch E w.1 w.1 a Ds t) (hD : da_ok Ds) (hi : Ds[i]? = some D) (hv : v < D.1.length) (hj : Ds[j]? = some D') (hu : u < D'.1.length) (H : K (iI (da_likeP Ds i v j u)) w) : pw_Cl E m_X5_lambda_likes_0 d [va_rf (some a), .int (iI (i : Nat)), .int (iI (v : Nat)), .int (iI (j : Nat)), .int (iI (u : Nat))] w (c_i K) := by
  replace hd := pw_d1 hd; obtain ⟨e, rfl, hd⟩ := hd
  obtain ⟨g1, g2, g3, g4, g5, g6, g7⟩ := hD.at hi
  obtain ⟨g1', g2', g3', g4', g5', g6', g7'⟩ := hD.at hj
  obtain ⟨row, hr⟩ := dc_get hv
  obtain ⟨row', hr'⟩ := dc_get hu
  unfold da_likeP at H
  rw [g3, g3'] at H
  have go : (i < j ∨ (j = i ∧ v < u)) → f_V E w (some a) 4 m_X5_of e [.int (iI (i : Nat))] (c_r (fun o2 w1 => f_V E w1 (some a) 4 m_X5_of e [.int (iI (j : Nat))] (c_r (fun o7 w6 => f_V E w6 o2 6 m_X7_isLike e [.int (iI (v : Nat)), va_rf o7, .int (iI (u : Nat))] (c_z (fun b12 w11 => (if bI b12 = 0 then c_i K (.inl (some (.int 0))) w11 else c_i K (.inl (some (.int 1))) w11))))))) := by
    intro hij
    refine qa_of (by omega) h hi (fun b hb => qa_of (by omega) h hj (fun b' hb' => ?_))
    obtain ⟨us, hus⟩ := hb.obj
    refine ⟨b, us, rfl, hus, cd_isLike_ok (by omega) hw hb g4 hr hb' g4' hr' ?_⟩
    by_cases z : dc_like D v D' u = true
    · rw [if_pos ⟨hij, z⟩] at H
      rw [z]
      exact ifF (by decide) ⟨_, rfl, H⟩
    · rw [if_neg (fun q => z q.2)] at H
      rw [Bool.not_eq_true] at z
      rw [z]
      exact ifT (by decide) ⟨_, rfl, H⟩
  refine e_X5_lambda_likes_0 _ _ _ _ _ (s_X5_lambda_likes_0_0 _ _ _ _ _ ?_)
  by_cases z1 : i < j
  · exact ifT (by rw [iI_ltn (by omega) (by omega)]; exact z1) (go (Or.inl z1))
  refine ifF (by rw [iI_ltn (by omega) (by omega)]; exact z1) ?_
  by_cases z2 : j = i
  · refine ifT (by rw [z2]) ?_
    by_cases z3 : u ≤ v
    · rw [if_neg (fun q => by rcases q.1 with q | q <;> omega)] at H
      exact ifT (by rw [iI_len (by omega) (by omega)]; exact z3) ⟨_, rfl, H⟩
    · exact ifF (by rw [iI_len (by omega) (by omega)]; exact z3) (go (Or.inr ⟨z2, by omega⟩))
  · rw [if_neg (fun q => by rcases q.1 with q | q <;> omega)] at H
    exact ifF (by rw [iI_eqn (by omega) (by omega)]; exact z2) ⟨_, rfl, H⟩
theorem da_cnt_le (hD : da_ok Ds) : da_cnt Ds Ds.length ≤ 40 := by
  have : ∀ n : Nat, n ≤ Ds.length → da_cnt Ds n ≤ 10 * n := by
    intro n
    induction n with
    | zero => intro _; exact Nat.le_refl 0
    | succ n ih =>
      intro hn
      obtain ⟨D, hd1⟩ := dc_get (l := Ds) (i := n) (by omega)
      obtain ⟨g1, g2, g3, g4, g5, g6, g7⟩ := hD.at hd1
      have := ih (by omega)
      unfold da_cnt at this ⊢
      rw [upto_s, g3]
      omega
  have h1 := this _ (Nat.le_refl _)
  have h2 := hD.1
  omega
theorem ca_likes_ok {i v : Nat} {D : dc} {K : Int32 → pw_W → Prop} (hd : 70 ≤ d) (hw : wf E w) (h : c_arch E w.1 w.1 a Ds t) (hD : da_ok Ds) (hi : Ds[i]? = some D) (hv : v < D.1.length) (H : ∀ w', cx E w w' c_no 7 → K (iI (da_sum Ds (da_likeP Ds i v))) w') : pw_Cl E m_X5_likes d [va_rf (some a), .int (iI (i : Nat)), .int (iI (v : Nat))] w (c_i K) := by
  replace hd := pw_d1 hd; obtain ⟨e, rfl, hd⟩ := hd
  refine e_X5_likes _ _ _ (s_X5_likes_0 _ _ _ ⟨by omega, ?_⟩)
  have c1 : cx E w (pw_new w (2007, [va_rf (some a), .int (iI (i : Nat)), .int (iI (v : Nat))]) 3) c_no 7 := cx.new hw _ 3
  replace hd := pw_d1 hd; obtain ⟨e, rfl, hd⟩ := hd
  replace hd := pw_d1 hd; obtain ⟨e, rfl, hd⟩ := hd
  replace hd := pw_d1 hd; obtain ⟨e, rfl, hd⟩ := hd
  refine qa_all (F := da_likeP Ds i v) (I := fun _ u => u = pw_new w (2007, [va_rf (some a), .int (iI (i : Nat)), .int (iI (v : Nat))]) 3) (t := t) (by omega) hD rfl (fun k u hu => ?_) (fun k u j y D' Q hu hj hy q => ?_) (fun u hu => ?_)
  · subst hu
    exact h.mono c1.sub1 c1.sub1
  · subst hu
    obtain ⟨us, hu⟩ := h.obj
    exact lm_F7 (pw_new_1 _ _ _) (c1.at hu) (ca_likesL_ok (by omega) c1.ok (h.mono c1.sub1 c1.sub1) hD hi hv hj hy (q _ rfl))
  · subst hu
    exact ⟨_, rfl, H _ c1⟩
def da_twins (Ds : List dc) : Int := da_sum Ds (fun i v => da_sum Ds (da_likeP Ds i v))
theorem ca_twins_ok {K : Int32 → pw_W → Prop} (hd : 80 ≤ d) (hw : wf E w) (h : c_arch E w.1 w.1 a Ds t) (hD : da_ok Ds) (H : ∀ w', cx E w w' c_no 300 → K (iI (da_twins Ds)) w') : pw_Cl E m_X5_twins d [va_rf (some a)] w (c_i K) := by
  replace hd := pw_d1 hd; obtain ⟨e, rfl, hd⟩ := hd
  refine e_X5_twins _ (s_X5_twins_0 _ ⟨by omega, ?_⟩)
  have c1 : cx E w (pw_new w (2006, [va_rf (some a)]) 1) c_no 5 := cx.new hw _ 1
  replace hd := pw_d1 hd; obtain ⟨e, rfl, hd⟩ := hd
  replace hd := pw_d1 hd; obtain ⟨e, rfl, hd⟩ := hd
  replace hd := pw_d1 hd; obtain ⟨e, rfl, hd⟩ := hd
  obtain ⟨us, hu⟩ := h.obj
  refine qa_all (F := fun i v => da_sum Ds (da_likeP Ds i v)) (I := fun k u => cx E w u c_no (5 + 7 * k) ∧ u.1 w.2.1 = some (2006, [va_rf (some a)])) (t := t) (by omega) hD ⟨c1, pw_new_1 _ _ _⟩ (fun k u hu => ?_) (fun k u j y D' Q hu' hj hy q => ?_) (fun u hu => ?_)
  · exact h.mono hu.1.sub1 hu.1.sub1
  · refine lm_F6 hu'.2 (hu'.1.at hu) (ca_likes_ok (by omega) hu'.1.ok (h.mono hu'.1.sub1 hu'.1.sub1) hD hj hy (fun u2 c2 => q _ ⟨(hu'.1.tr c2).le (by omega), c2.at hu'.2⟩))
  · have := da_cnt_le hD
    exact ⟨_, rfl, H _ (hu.1.le (by omega))⟩
end
