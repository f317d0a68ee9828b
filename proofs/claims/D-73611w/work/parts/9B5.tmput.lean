set_option maxRecDepth 100000
/-! the component: TreeMap: put -/
theorem t_ids_ins (xs : List tE) (p : Nat) (e : tE) : t_ids (xs.take p ++ e :: xs.drop p) = (t_ids xs).take p ++ e.1 :: (t_ids xs).drop p := by
  unfold t_ids
  rw [List.map_append, List.map_cons, List.map_take, List.map_drop]
theorem t_ins_mem {xs : List tE} {p : Nat} {e f : tE} : f ∈ xs.take p ++ e :: xs.drop p ↔ f = e ∨ f ∈ xs := by
  rw [List.mem_append, List.mem_cons]
  constructor
  · rintro (q | q | q)
    · exact Or.inr (List.mem_of_mem_take q)
    · exact Or.inl q
    · exact Or.inr (List.mem_of_mem_drop q)
  · rintro (q | q)
    · exact Or.inr (Or.inl q)
    · have : f ∈ xs.take p ++ xs.drop p := by rw [List.take_append_drop]; exact q
      rcases List.mem_append.mp this with z | z
      · exact Or.inl z
      · exact Or.inr (Or.inr z)
theorem t_ins_ix {α : Type} {xs : List α} {p : Nat} {e f : α} {i : Nat} (hp : p ≤ xs.length) (h : (xs.take p ++ e :: xs.drop p)[i]? = some f) : (i < p ∧ xs[i]? = some f) ∨ (i = p ∧ f = e) ∨ (p < i ∧ xs[i - 1]? = some f) := by
  rcases Nat.lt_trichotomy i p with q | q | q
  · rw [List.getElem?_append_left (by simp; omega), List.getElem?_take_of_lt q] at h
    exact Or.inl ⟨q, h⟩
  · subst q
    rw [List.getElem?_append_right (by simp; omega)] at h
    simp [Nat.min_eq_left hp] at h
    exact Or.inr (Or.inl ⟨rfl, h.symm⟩)
  · rw [List.getElem?_append_right (by simp; omega), List.length_take, Nat.min_eq_left hp] at h
    rw [show i - p = (i - p - 1) + 1 by omega, List.getElem?_cons_succ, List.getElem?_drop] at h
    rw [show p + (i - p - 1) = i - 1 by omega] at h
    exact Or.inr (Or.inr ⟨q, h⟩)
section
variable {E : pw_E} {d : Nat} {w u : pw_W} {τ : Bool} {m : Nat} {mc : Int32} {ks : Option Nat} {xs : List tE} {v : tV} {S : tS}
theorem tl_node_ne (k : c_tL E u.1 m v xs S) : ∀ f ∈ xs, f.1 ≠ m := by
  intro f hf q
  have := (k.2.2 f hf).2
  rw [q, k.1] at this
  cases this
/-- the map's own fields are set -/
theorem tl_pm (hw : wf E u) (k : c_tL E u.1 m v xs S) {j : Nat} {x : Value} {v' : tV} (h : (t_os v S).set j x = t_os v' S) {K : pw_W → Prop} (H : ∀ u', tU E m xs u u' → c_tL E u'.1 m v' xs S → K u') : f_put E u (some m) 22 j x K := by
  refine ⟨m, _, rfl, k.1, k.2.1, H _ ⟨cx.up hw _ k.1 k.2.1 (Or.inl rfl), rfl⟩ ⟨?_, k.2.1, fun f hf => ⟨(k.2.2 f hf).1, ?_⟩⟩⟩
  · rw [pw_up_1, h]
  · rw [pw_up_ne (tl_node_ne k f hf)]
    exact (k.2.2 f hf).2
theorem tl_size (hw : wf E u) {x0 x1 x6 x7 x8 : Value} {x y : Int32} (k : c_tL E u.1 m (x0, x1, .int x, .int y, x6, x7, x8) xs S) {K : pw_W → Prop} (H : ∀ u', tU E m xs u u' → c_tL E u'.1 m (x0, x1, .int (x + 1), .int (y + 1), x6, x7, x8) xs S → K u') : f_geti u (some m) 22 4 (fun x11 => f_put E u (some m) 22 4 (.int (x11 + 1)) (fun w18 => f_geti w18 (some m) 22 5 (fun x19 => f_put E w18 (some m) 22 5 (.int (x19 + 1)) (fun w26 => c_v K (.inl none) w26)))) := by
  refine ⟨m, _, x, rfl, k.1, rfl, tl_pm hw k (v' := (x0, x1, .int (x + 1), .int y, x6, x7, x8)) rfl (fun u1 hU1 k1 => ⟨m, _, y, rfl, k1.1, rfl, tl_pm hU1.1.ok k1 (v' := (x0, x1, .int (x + 1), .int (y + 1), x6, x7, x8)) rfl (fun u2 hU2 k2 => ⟨rfl, H u2 (hU1.tr hU2) k2⟩)⟩)⟩
theorem te_init_ok {a : Nat} {c : Nat} {vv g : Option Nat} {o : pw_O} {K : pw_W → Prop} (hd : 1 ≤ d) (hw : wf E w) (ha : a = w.2.1) (ho : ∃ b : Int32, o = (23, [va_rf none, va_rf none, va_rf none, va_rf none, va_rf none, .int b])) (H : K (pw_new w (23, [va_rf (some c), va_rf vv, va_rf none, va_rf none, va_rf g, .int 1]) 6)) : pw_Cl E m_J24_init d [va_rf (some a), va_rf (some c), va_rf vv, va_rf g] (pw_new w o 6) (c_v K) := by
  replace hd := pw_d1 hd; obtain ⟨e, rfl, hd⟩ := hd
  subst ha
  obtain ⟨b, rfl⟩ := ho
  refine e_J24_init _ _ _ _ (s_J24_init_0 _ _ _ _ ⟨w.2.1, _, rfl, pw_new_1 _ _ _, hw.b, ?_⟩)
  rw [pw_up_new]
  refine ⟨w.2.1, _, rfl, pw_new_1 _ _ _, hw.b, ?_⟩
  rw [pw_up_new]
  refine ⟨w.2.1, _, rfl, pw_new_1 _ _ _, hw.b, ?_⟩
  rw [pw_up_new]
  refine ⟨w.2.1, _, rfl, pw_new_1 _ _ _, hw.b, ?_⟩
  rw [pw_up_new]
  exact ⟨rfl, H⟩
theorem tU_new {b : Nat} {c : Nat} {κ : Int} {vv : Option Nat} {p : Nat} {u1 u2 : pw_W} (hw : wf E w) (hb : b = w.2.1) (c1 : cx E w u1 (t_F m xs) 10) (h : tU E m (xs.take p ++ (b, c, κ, vv) :: xs.drop p) u1 u2) : cx E w u2 (t_F m xs) 10 := by
  refine (c1.tn hw h.1 (fun q hq => ?_)).le (by omega)
  rcases hq with q1 | ⟨e, he, q1⟩
  · exact Or.inl (Or.inl q1)
  · rcases t_ins_mem.mp he with rfl | he
    · exact Or.inr (by rw [q1, hb]; exact Nat.le_refl _)
    · exact Or.inl (Or.inr ⟨e, he, q1⟩)
/-- the new node, not linked yet -/
theorem tl_new {b : Nat} {c : Nat} {κ : Int} {vv : Option Nat} {g p : Nat} (hw : wf E w) (hb : b = w.2.1) (k : c_tL E w.1 m v xs S) : c_tL E (pw_new w (23, [va_rf (some c), va_rf vv, va_rf none, va_rf none, va_rf (some g), .int 1]) 6).1 m v (xs.take p ++ (b, c, κ, vv) :: xs.drop p) (t_up S.1 b none, t_up S.2.1 b none, t_up S.2.2.1 b (some g), t_up S.2.2.2.1 b true, S.2.2.2.2) := by
  subst hb
  refine ⟨?_, k.2.1, fun e he => ?_⟩
  · have := hw.lt k.1
    rw [pw_new_ne (by omega)]
    exact k.1
  · rcases t_ins_mem.mp he with rfl | he
    · refine ⟨hw.b, ?_⟩
      show (pw_new w _ 6).1 w.2.1 = _
      rw [pw_new_1]
      simp [t_fs, t_up, bI]
    · obtain ⟨h1, h2⟩ := k.2.2 e he
      have := hw.lt h2
      refine ⟨h1, ?_⟩
      rw [pw_new_ne (by omega), h2]
      have hne : e.1 ≠ w.2.1 := by omega
      simp [t_fs, t_up, hne]
theorem tm_addR_ok {x0 x1 x6 x7 x8 : Value} {x y : Int32} {c g j : Nat} {κ : Int} {vv : Option Nat} {K : pw_W → Prop} (hd : 5 ≤ d) (hw : wf E w) (k : c_tL E w.1 m (x0, x1, .int x, .int y, x6, x7, x8) xs S) (hI : t_I xs S) (hg : (t_ids xs)[j]? = some g) (hR : S.2.1 g = none) (H : ∀ w' S', cx E w w' (t_F m xs) 10 → w'.2.1 = w.2.1 + 1 → c_tL E w'.1 m (x0, x1, .int (x + 1), .int (y + 1), x6, x7, x8) (xs.take (j + 1) ++ (w.2.1, c, κ, vv) :: xs.drop (j + 1)) S' → t_I (xs.take (j + 1) ++ (w.2.1, c, κ, vv) :: xs.drop (j + 1)) S' → K w') : pw_Cl E m_J18_addEntry d [va_rf (some m), va_rf (some c), va_rf vv, va_rf (some g), .int 0] w (c_v K) := by
  replace hd := pw_d1 hd; obtain ⟨e, rfl, hd⟩ := hd
  refine e_J18_addEntry _ _ _ _ false (s_J18_addEntry_0 _ _ _ _ false (te_init_ok (by omega) hw rfl ⟨0, rfl⟩ (ifT rfl ?_)))
  have c1 : cx E w (pw_new w (23, [va_rf (some c), va_rf vv, va_rf none, va_rf none, va_rf (some g), .int 1]) 6) (t_F m xs) 10 := cx.new hw _ 6
  have gm : g ∈ t_ids xs := List.mem_of_getElem? hg
  have hb : w.2.1 ∉ t_ids xs := by
    intro q
    obtain ⟨e', -, q2, -, q3⟩ := k.node q
    have := hw.lt q3
    omega
  have gb : g ≠ w.2.1 := by rintro rfl; exact hb gm
  have k1 := tl_new (c := c) (κ := κ) (vv := vv) (g := g) (p := j + 1) hw rfl k
  have gm' : g ∈ t_ids (xs.take (j + 1) ++ (w.2.1, c, κ, vv) :: xs.drop (j + 1)) := by
    obtain ⟨e', h1, h2⟩ := t_mem gm
    exact List.mem_map.mpr ⟨e', t_ins_mem.mpr (Or.inr h1), h2⟩
  have bm' : w.2.1 ∈ t_ids (xs.take (j + 1) ++ (w.2.1, c, κ, vv) :: xs.drop (j + 1)) := List.mem_map.mpr ⟨_, t_ins_mem.mpr (Or.inl rfl), rfl⟩
  refine tl_p3 c1.ok k1 gm' (fun u2 hU2 k2 => ⟨m, _, rfl, k2.1, ?_⟩)
  have hI2 : t_I (xs.take (j + 1) ++ (w.2.1, c, κ, vv) :: xs.drop (j + 1)) (t_up S.1 w.2.1 none, t_up (t_up S.2.1 w.2.1 none) g (some w.2.1), t_up S.2.2.1 w.2.1 (some g), t_up S.2.2.2.1 w.2.1 true, S.2.2.2.2) := by
    obtain ⟨lo, hi, hT⟩ := hI
    obtain ⟨lo', hi', hT'⟩ := hT.insR hg hR hb
    refine ⟨lo', hi', ?_⟩
    rw [t_ids_ins]
    have e1 : t_up (t_up S.2.1 w.2.1 none) g (some w.2.1) = (fun q => if q = w.2.1 then none else if q = g then some w.2.1 else S.2.1 q) := by
      funext q
      unfold t_up
      by_cases z : q = w.2.1
      · rw [if_neg (by rw [z]; exact Ne.symm gb), if_pos z, if_pos z]
      · rw [if_neg z, if_neg z]
    show tI _ (t_up S.1 w.2.1 none) (t_up (t_up S.2.1 w.2.1 none) g (some w.2.1)) _ _ _ _
    rw [e1]
    exact hT'
  refine tm_fix_ok (by omega) hU2.1.ok k2 hI2 bm' (fun u3 S3 hU3 k3 hI3 => tl_size hU3.1.ok k3 (fun u4 hU4 k4 => ?_))
  refine H u4 S3 (tU_new hw rfl c1 ((hU2.tr hU3).tr hU4)) ?_ k4 hI3
  have := hU4.2; have := hU3.2; have := hU2.2
  have e1 : u4.2 = (pw_new w (23, [va_rf (some c), va_rf vv, va_rf none, va_rf none, va_rf (some g), .int 1]) 6).2 := by rw [hU4.2, hU3.2, hU2.2]
  rw [e1]
  rfl
theorem tm_addL_ok {x0 x1 x6 x7 x8 : Value} {x y : Int32} {c g j : Nat} {κ : Int} {vv : Option Nat} {K : pw_W → Prop} (hd : 5 ≤ d) (hw : wf E w) (k : c_tL E w.1 m (x0, x1, .int x, .int y, x6, x7, x8) xs S) (hI : t_I xs S) (hg : (t_ids xs)[j]? = some g) (hL : S.1 g = none) (H : ∀ w' S', cx E w w' (t_F m xs) 10 → w'.2.1 = w.2.1 + 1 → c_tL E w'.1 m (x0, x1, .int (x + 1), .int (y + 1), x6, x7, x8) (xs.take j ++ (w.2.1, c, κ, vv) :: xs.drop j) S' → t_I (xs.take j ++ (w.2.1, c, κ, vv) :: xs.drop j) S' → K w') : pw_Cl E m_J18_addEntry d [va_rf (some m), va_rf (some c), va_rf vv, va_rf (some g), .int 1] w (c_v K) := by
  replace hd := pw_d1 hd; obtain ⟨e, rfl, hd⟩ := hd
  refine e_J18_addEntry _ _ _ _ true (s_J18_addEntry_0 _ _ _ _ true (te_init_ok (by omega) hw rfl ⟨0, rfl⟩ (ifF (by decide) ?_)))
  have c1 : cx E w (pw_new w (23, [va_rf (some c), va_rf vv, va_rf none, va_rf none, va_rf (some g), .int 1]) 6) (t_F m xs) 10 := cx.new hw _ 6
  have gm : g ∈ t_ids xs := List.mem_of_getElem? hg
  have hb : w.2.1 ∉ t_ids xs := by
    intro q
    obtain ⟨e', -, q2, -, q3⟩ := k.node q
    have := hw.lt q3
    omega
  have gb : g ≠ w.2.1 := by rintro rfl; exact hb gm
  have k1 := tl_new (c := c) (κ := κ) (vv := vv) (g := g) (p := j) hw rfl k
  have gm' : g ∈ t_ids (xs.take j ++ (w.2.1, c, κ, vv) :: xs.drop j) := by
    obtain ⟨e', h1, h2⟩ := t_mem gm
    exact List.mem_map.mpr ⟨e', t_ins_mem.mpr (Or.inr h1), h2⟩
  have bm' : w.2.1 ∈ t_ids (xs.take j ++ (w.2.1, c, κ, vv) :: xs.drop j) := List.mem_map.mpr ⟨_, t_ins_mem.mpr (Or.inl rfl), rfl⟩
  refine tl_p2 c1.ok k1 gm' (fun u2 hU2 k2 => ⟨m, _, rfl, k2.1, ?_⟩)
  have hI2 : t_I (xs.take j ++ (w.2.1, c, κ, vv) :: xs.drop j) (t_up (t_up S.1 w.2.1 none) g (some w.2.1), t_up S.2.1 w.2.1 none, t_up S.2.2.1 w.2.1 (some g), t_up S.2.2.2.1 w.2.1 true, S.2.2.2.2) := by
    obtain ⟨lo, hi, hT⟩ := hI
    obtain ⟨lo', hi', hT'⟩ := hT.insL hg hL hb
    refine ⟨lo', hi', ?_⟩
    rw [t_ids_ins]
    have e1 : t_up (t_up S.1 w.2.1 none) g (some w.2.1) = (fun q => if q = w.2.1 then none else if q = g then some w.2.1 else S.1 q) := by
      funext q
      unfold t_up
      by_cases z : q = w.2.1
      · rw [if_neg (by rw [z]; exact Ne.symm gb), if_pos z, if_pos z]
      · rw [if_neg z, if_neg z]
    show tI _ (t_up (t_up S.1 w.2.1 none) g (some w.2.1)) (t_up S.2.1 w.2.1 none) _ _ _ _
    rw [e1]
    exact hT'
  refine tm_fix_ok (by omega) hU2.1.ok k2 hI2 bm' (fun u3 S3 hU3 k3 hI3 => tl_size hU3.1.ok k3 (fun u4 hU4 k4 => ?_))
  refine H u4 S3 (tU_new hw rfl c1 ((hU2.tr hU3).tr hU4)) ?_ k4 hI3
  have e1 : u4.2 = (pw_new w (23, [va_rf (some c), va_rf vv, va_rf none, va_rf none, va_rf (some g), .int 1]) 6).2 := by rw [hU4.2, hU3.2, hU2.2]
  rw [e1]
  rfl
end
