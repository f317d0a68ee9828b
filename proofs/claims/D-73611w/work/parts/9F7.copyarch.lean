set_option maxRecDepth 100000
/-! the component: an archive copied -/
theorem c_canDO : pw_can 6 "java/lang/Object" := Or.inl ⟨_, rfl, by decide, Or.inr q3233⟩
/-- the rooms of its token lists -/
def a_P : List dX → Nat
  | [] => 0
  | x :: xs => 8 * x.2.1.2.2.1 + a_P xs
theorem a_P_app (x : dX) : ∀ xs : List dX, a_P (xs ++ [x]) = a_P xs + 8 * x.2.1.2.2.1
  | [] => by show 8 * x.2.1.2.2.1 + 0 = 0 + _; omega
  | y :: xs => by
    show 8 * y.2.1.2.2.1 + a_P (xs ++ [x]) = 8 * y.2.1.2.2.1 + a_P xs + _
    rw [a_P_app x xs]; omega
theorem a_P_set {x x' : dX} : ∀ {xs : List dX} {i : Nat}, xs[i]? = some x → a_P (xs.set i x') + 8 * x.2.1.2.2.1 = a_P xs + 8 * x'.2.1.2.2.1
  | [], i, h => by cases h
  | y :: xs, 0, h => by
    cases h
    show 8 * x'.2.1.2.2.1 + a_P xs + _ = 8 * x.2.1.2.2.1 + a_P xs + _
    omega
  | y :: xs, i + 1, h => by
    have h : xs[i]? = some x := h
    show 8 * y.2.1.2.2.1 + a_P (xs.set i x') + _ = 8 * y.2.1.2.2.1 + a_P xs + _
    have := a_P_set (x' := x') h
    omega
def a_T : List dc → Nat
  | [] => 0
  | D :: Ds => D.2.1.length + a_T Ds
theorem a_T_app (D : dc) : ∀ Ds : List dc, a_T (Ds ++ [D]) = a_T Ds + D.2.1.length
  | [] => by show D.2.1.length + 0 = 0 + _; omega
  | y :: Ds => by
    show y.2.1.length + a_T (Ds ++ [D]) = y.2.1.length + a_T Ds + _
    rw [a_T_app D Ds]; omega
section
variable {E : pw_E} {d : Nat} {w : pw_W} {b : Nat} {Ds : List dc} {t : Int}
theorem ca_copy_ok {K : Option Nat → pw_W → Prop} (hd : 40 ≤ d) (hw : wf E w) (h : c_arch E w.1 w.1 b Ds t) (hD : da_ok Ds)
    (H : ∀ (u : pw_W) (l : lX) (as : List Nat) (xs : List dX) (cc : Nat), cx E w u c_no cc → cc ≤ a_P xs + 6 * a_T Ds + 600 → c_aX E u.1 w.2.1 Ds t l as xs → (∀ q, a_F w.2.1 l xs q → w.2.1 ≤ q) → K (some w.2.1) u) : pw_Cl E m_X5_copy d [va_rf (some b)] w (c_r K) := by
  replace hd := pw_d1 hd; obtain ⟨e, rfl, hd⟩ := hd
  have hl4 := hD.1
  have hbb := hw.b
  obtain ⟨ld, bd, cd, md, bs, h1, h2, ⟨h3, h4⟩, h5⟩ := id h
  refine e_X5_copy _ (s_X5_copy_0 _ ?_)
  have c1 : cx E w (pw_new w (4, [va_rf none, .int 0]) 2) c_no 6 := cx.new hw _ 2
  show pw_Cl E m_X5_init e [va_rf (some w.2.1)] (pw_new w (4, [va_rf none, .int 0]) 2) _
  refine ca_new_ok (by omega) c1.ok (pw_new_1 _ _ _) hbb (fun w2 c2 n2 a2 l2 => ?_)
  have n1 : (pw_new w (4, [va_rf none, .int 0]) 2).2.1 = w.2.1 + 1 := rfl
  rw [n1] at n2 a2 l2
  have c12 : cx E w w2 c_no 21 := cx.tn hw c1 c2 (fun q hq => Or.inr (by have hq : q = w.2.1 := hq; omega))
  refine ⟨b, _, _, rfl, c12.at h1, rfl, ld, _, rfl, (h2.mono c12.sub1).1, cl_iterator_ok (by omega) c12.ok (h2.mono c12.sub1) (fun w3 c3 n3 i3 => ?_)⟩
  have c13 := c12.tr c3
  have key : ∀ (f k : Nat) (v : pw_W) (l : lX) (as : List Nat) (xs : List dX) (cc : Nat), k + f = Ds.length → cx E w v c_no cc → cc ≤ a_P xs + 6 * a_T (Ds.take k) + 29 + 120 * k → c_it v.1 w2.2.1 k md ld → c_aX E v.1 w.2.1 (Ds.take k) 0 l as xs → l.2.2.1 = 4 → l.1 = w.2.1 + 1 ∧ l.2.1 = w.2.1 + 2 → (∀ (i : Nat) (x : dX), xs[i]? = some x → ∀ q, d_F x q → w2.2.1 < q) → pw_Wp E m_X5_copy (e + 1) 16 [some (va_rf (some b)), some (va_rf (some w.2.1)), some (va_rf (some w2.2.1)), none] [] v (c_r K) := by
    have low : ∀ (l : lX) (xs : List dX), (l.1 = w.2.1 + 1 ∧ l.2.1 = w.2.1 + 2) → (∀ (i : Nat) (x : dX), xs[i]? = some x → ∀ q, d_F x q → w2.2.1 < q) → ∀ q, a_F w.2.1 l xs q → w.2.1 ≤ q ∧ q ≠ w2.2.1 := by
      intro l xs hl hx q hq
      rcases hq with rfl | rfl | rfl | ⟨i, x, hi, hq⟩
      · omega
      · omega
      · omega
      · have := hx i x hi q hq
        omega
    intro f
    induction f with
    | zero =>
      intro k v l as xs cc hk cv hcc hit hX hl hla hxs
      have hk : k = Ds.length := by omega
      subst hk
      rw [List.take_length] at hX hcc
      refine s_X5_copy_16 _ _ _ (cl_step (by omega) hit (by omega) (h2.mono cv.sub1) (by rw [List.length_map]; omega) (fun _ => ?_) (fun p o hp => by have := (List.getElem?_eq_some_iff.mp hp).1; rw [List.length_map] at this; omega))
      obtain ⟨z4, hX4⟩ := hX.date (y := t) cv.ok
      refine ⟨b, _, _, rfl, cv.at h1, rfl, w.2.1, _, rfl, hX.1.1, hbb, ⟨_, rfl, ?_⟩⟩
      exact H _ l as xs cc ((cx.tn hw cv z4 (fun q hq => Or.inr (by have hq : q = w.2.1 := hq; omega))).le (Nat.le_refl _)) (by omega) hX4 (fun q hq => (low l xs hla hxs q hq).1)
    | succ f ih =>
      intro k v l as xs cc hk cv hcc hit hX hl hla hxs
      obtain ⟨D, hD1⟩ := dc_get (l := Ds) (i := k) (by omega)
      obtain ⟨b9, hb9⟩ := dc_get (l := bs) (i := k) (by omega)
      obtain ⟨g1, g2, g3, g4, g5, g6, g7⟩ := hD.at hD1
      refine s_X5_copy_16 _ _ _ (cl_step (by omega) hit (by omega) (h2.mono cv.sub1) (by rw [List.length_map]; omega) (fun hk9 => by rw [List.length_map] at hk9; omega) (fun p o hp hit1 hus => ?_))
      rw [List.getElem?_map, hb9] at hp
      cases hp
      obtain ⟨us, rfl⟩ := hus
      obtain ⟨li, hit0⟩ := hit
      have c4 := cx.up (F := fun q => q = w2.2.1) cv.ok (19, us) hit0 (by omega) rfl
      have hlow := low l xs hla hxs
      have hX1 : c_aX E (pw_up v w2.2.1 (19, us)).1 w.2.1 (Ds.take k) 0 l as xs := hX.keep cv.ok c4 (fun q hq e => (hlow q hq).2 e) (fun q o ho e => by
        have e : q = w2.2.1 := e
        subst e
        rw [hit0] at ho; cases ho
        exact ⟨(by decide : (19 : Nat) ≠ 6), (by decide : (19 : Nat) ≠ 1000), (by decide : (19 : Nat) ≠ 21), (by decide : (19 : Nat) ≠ 1001), (by decide : (19 : Nat) ≠ 28)⟩)
      have cv1 : cx E w (pw_up v w2.2.1 (19, us)) c_no cc := (cx.tn hw cv c4 (fun q e => Or.inr (by have e : q = w2.2.1 := e; have := c12.le1; omega))).le (Nat.le_refl _)
      have n4 : (pw_up v w2.2.1 (19, us)).2.1 = v.2.1 := rfl
      generalize pw_up v w2.2.1 (19, us) = v1 at hit1 hX1 cv1 n4 ⊢
      have hdoc := (h4 k b9 D hb9 hD1).mono cv1.sub1 cv1.sub1
      obtain ⟨ud, hud⟩ := hdoc.obj
      have hvlt := cv.ok.lt hit0
      refine ⟨Or.inr ⟨b9, 6, ud, rfl, hud, c_canD⟩, w.2.1, _, _, rfl, hX1.1.1, rfl, b9, ud, rfl, hud, cd_copy_ok (by omega) cv1.ok hdoc g4 g6 (fun u x c5 cu hc5 hk5 hn5 => ?_)⟩
      have hX2 : c_aX E u.1 w.2.1 (Ds.take k) 0 l as xs := hX1.keep cv1.ok cu (fun _ _ z => z) (fun _ _ _ z => z.elim)
      obtain ⟨-, kl, ⟨kl1, kl2⟩, -⟩ := id hX2
      have lenk : (Ds.take k).length = k := by rw [List.length_take]; omega
      have els : c_els u.1 (as.map some) := by
        intro y hy
        obtain ⟨y', hy', rfl⟩ := List.mem_map.mp hy
        obtain ⟨i, hi⟩ := List.getElem?_of_mem hy'
        obtain ⟨D9, hD9⟩ := dc_get (l := Ds.take k) (i := i) (by have := (List.getElem?_eq_some_iff.mp hi).1; omega)
        obtain ⟨b8, x8, j1, j2, j3⟩ := hX2.at hD9
        rw [hi] at j1
        cases j1
        exact Or.inr ⟨y', 6, _, rfl, j3.1, c_canDO⟩
      refine ⟨l.1, _, rfl, kl.1, cl_add_ok (x := some v1.2.1) (by omega) cu.ok kl els (Or.inr ⟨v1.2.1, 6, _, rfl, hk5.1, c_canDO⟩) (by omega) (fun v2 b2 cap2 c6 hor hal2 => ?_)⟩
      rw [List.length_map] at hor c6
      rcases hor with ⟨o1, rfl, rfl, o4⟩ | ⟨o1, -⟩
      · rw [if_neg (by omega)] at c6
        have c6' : cx E u v2 (fun q => q = l.1 ∨ (q = l.2.1 ∧ 0 < l.2.2.1)) 0 := c6.mono (fun q _ _ hq => hq.elim Or.inl (fun hq => Or.inr ⟨hq.1, by omega⟩)) (Nat.le_refl _)
        have hX3 := hX2.join (l' := (l.1, l.2.1, l.2.2.1, l.2.2.2 + 1)) cu.ok hk5 (fun q hq ha => by
          have q5 := hn5 q hq
          rcases ha with ha | ha | ha | ⟨i, y, hy, ha⟩
          · omega
          · omega
          · omega
          · have hm := (List.getElem?_eq_some_iff.mp hy).1
            obtain ⟨D9, hD9⟩ := dc_get (l := Ds.take k) (i := i) (by omega)
            obtain ⟨b8, x8, j1, j2, j3⟩ := hX1.at hD9
            rw [hy] at j2
            cases j2
            have := dX_lt cv1.ok j3 ha
            omega) c6' (by show c_al E v2.1 l.1 (l.2.2.2 + 1) l.2.1 l.2.2.1 ((as ++ [v1.2.1]).map some); rw [List.map_append]; exact hal2) rfl (Or.inl rfl)
        have etake : Ds.take (k + 1) = Ds.take k ++ [D] := take_s hD1
        rw [← etake] at hX3
        have cv2 : cx E w v2 c_no (cc + c5) := (cx.tn hw (cv1.tr cu) c6' (fun q hq => Or.inr (by rcases hq with hq | hq <;> omega))).le (Nat.le_refl _)
        refine ih (k + 1) v2 _ _ _ (cc + c5) (by omega) cv2 ?_ ?_ hX3 hl hla (fun i y hy q hq => ?_)
        · rw [a_P_app, etake, a_T_app]
          omega
        · obtain ⟨l9, hl9⟩ := hit1
          refine ⟨l9, c6'.keep (cu.at hl9) (fun hq => ?_)⟩
          rcases hq with hq | hq
          · omega
          · omega
        · rcases app_at hy with ⟨j1, j2⟩ | ⟨j1, j2⟩
          · exact hxs i y j2 q hq
          · subst j2
            have := hn5 q hq
            omega
      · omega
  have hX0 : c_aX E w3.1 w.2.1 (Ds.take 0) 0 (w.2.1 + 1, w.2.1 + 1 + 1, 4, 0) [] [] := ⟨⟨c3.at a2, hbb⟩, c_al.mono l2 c3.sub1, ⟨rfl, rfl⟩, (fun i b D x h => by cases h), (fun i j x y _ h => by cases h), (fun i x h => by cases h)⟩
  exact key Ds.length 0 w3 _ [] [] 29 (by omega) c13 (by show 29 ≤ 0 + 6 * 0 + 29 + 120 * 0; omega) i3 hX0 rfl ⟨rfl, rfl⟩ (fun i x h => by cases h)
end
