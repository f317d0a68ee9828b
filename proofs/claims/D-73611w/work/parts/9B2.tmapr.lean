set_option maxRecDepth 100000
/-! (turned by tools/mirror.py) the component: TreeMap: rotation to the right -/
section
variable {E : pw_E} {d : Nat} {u : pw_W} {m : Nat} {v : tV} {xs : List tE} {S : tS}
theorem tm_rotateRight_ok (hd : 1 ≤ d) (hw : wf E u) (k : c_tL E u.1 m v xs S) (hI : t_I xs S) {p r : Nat} (hp : p ∈ t_ids xs) (hr : S.1 p = some r) {K : pw_W → Prop} (H : ∀ u', tU E m xs u u' → c_tL E u'.1 m v xs (t_rr S p r) → K u') : pw_Cl E m_J18_rotateRight d [va_rf (some m), va_rf (some p)] u (c_v K) := by
  replace hd := pw_d1 hd; obtain ⟨e, rfl, hd⟩ := hd
  obtain ⟨n2, -, n3, n4⟩ := hI.nb hp
  obtain ⟨r1, r2, r3, r4⟩ := n2 r hr
  obtain ⟨m2, m1, m3, m4⟩ := hI.nb r1
  have hgr : ∀ g, S.2.2.1 p = some g → g ≠ r := by
    rintro g hg rfl
    rcases (n4 g hg).2.1.symm with q | q
    · have := (m1 p q).2.1
      obtain ⟨lo, hi, hh⟩ := hI
      obtain ⟨i, hi0⟩ := mem_ix hp
      obtain ⟨j, hj0⟩ := mem_ix r1
      obtain ⟨a1, a2, a3, a4, a5, a6, a7, a8, a9⟩ := hh.2.1 i p hi0
      obtain ⟨b1, b2, b3, b4, b5, b6, b7, b8, b9⟩ := hh.2.1 j g hj0
      have := a5 g hr
      have := b7 p q
      omega
    · obtain ⟨lo, hi, hh⟩ := hI
      obtain ⟨i, hi0⟩ := mem_ix hp
      obtain ⟨j, hj0⟩ := mem_ix r1
      obtain ⟨a1, a2, a3, a4, a5, a6, a7, a8, a9⟩ := hh.2.1 i p hi0
      obtain ⟨b1, b2, b3, b4, b5, b6, b7, b8, b9⟩ := hh.2.1 j g hj0
      have := a5 g hr
      have := b5 p q
      omega
  have hxp : ∀ x, S.2.1 r = some x → x ≠ p := by
    rintro x hx rfl
    have := (m1 x hx).2.1
    exact hgr r this rfl
  have hxg : ∀ x g, S.2.1 r = some x → S.2.2.1 p = some g → g ≠ x := by
    rintro x g hx hg rfl
    obtain ⟨lo, hi, hh⟩ := hI
    obtain ⟨i, hi0⟩ := mem_ix hp
    obtain ⟨j, hj0⟩ := mem_ix r1
    obtain ⟨c, hc0⟩ := mem_ix (m1 g hx).1
    obtain ⟨a1, a2, a3, a4, a5, a6, a7, a8, a9⟩ := hh.2.1 i p hi0
    obtain ⟨b1, b2, b3, b4, b5, b6, b7, b8, b9⟩ := hh.2.1 j r hj0
    obtain ⟨c1, c2, c3, c4, c5, c6, c7, c8, c9⟩ := hh.2.1 c g hc0
    have := a5 r hr
    have := b7 g hx
    rcases (a9 g hg).2.symm with q | q
    · have := c7 p q; omega
    · have := c5 p q; omega
  have hpr : p ≠ r := Ne.symm r3
  /- the last two links, and all said -/
  have fin : ∀ (u0 u1 : pw_W) (S1 : tS), tU E m xs u u1 → c_tL E u1.1 m v xs S1 → (S1.1, t_up S1.2.1 r (some p), t_up S1.2.2.1 p (some r), S1.2.2.2) = t_rr S p r → f_put E u1 (some r) 23 3 (va_rf (some p)) (fun w76 => f_put E w76 (some p) 23 4 (va_rf (some r)) (fun w80 => c_v K (.inl none) w80)) := by
    intro u0 u1 S1 hU k1 hS
    refine tl_p3 hU.1.ok k1 r1 (fun u2 hU2 k2 => tl_p4 hU2.1.ok k2 hp (fun u3 hU3 k3 => ⟨rfl, H u3 ((hU.tr hU2).tr hU3) ?_⟩))
    rw [← hS]
    exact k3
  refine e_J18_rotateRight _ _ (s_J18_rotateRight_0 _ _ (ifF (by simp) (tl_g2 k hp ?_)))
  rw [hr]
  refine tl_g3 k r1 (tl_p2 hw k hp (fun u1 hU1 k1 => tl_g3 k1 r1 ?_))
  show if S.2.1 r = none then _ else _
  cases hx : S.2.1 r with
  | none =>
    refine ifT rfl (tl_g4 k1 hp (tl_p4 hU1.1.ok k1 r1 (fun u2 hU2 k2 => tl_g4 k2 hp ?_)))
    have eP : t_up S.2.2.1 r (S.2.2.1 p) p = S.2.2.1 p := by unfold t_up; rw [if_neg hpr]
    show if t_up S.2.2.1 r (S.2.2.1 p) p = none then _ else _
    rw [eP]
    cases hg : S.2.2.1 p with
    | none =>
      refine ifT rfl (tl_pr hU2.1.ok k2 (fun u3 hU3 k3 => fin u _ _ ((hU1.tr hU2).tr hU3) k3 ?_))
      unfold t_rr t_up
      refine Prod.ext (funext fun q => ?_) (Prod.ext (funext fun q => ?_) (Prod.ext (funext fun q => ?_) (Prod.ext rfl ?_)))
      · simp [hg, hx]
      · simp [hg]
      · simp [hg, hx]
      · simp [hg]
    | some g =>
      obtain ⟨g1, g2, g3⟩ := n4 g hg
      have gr := hgr g hg
      refine ifF (by simp) (tl_g4 k2 hp ?_)
      show f_getr u2 (t_up S.2.2.1 r (S.2.2.1 p) p) 23 3 _
      rw [eP, hg]
      refine tl_g3 k2 g1 ?_
      show if S.2.1 g = some p then _ else _
      by_cases z : S.2.1 g = some p
      · refine ifT z (tl_g4 k2 hp ?_)
        show f_put E u2 (t_up S.2.2.1 r (S.2.2.1 p) p) 23 3 _ _
        rw [eP, hg]
        refine tl_p3 hU2.1.ok k2 g1 (fun u3 hU3 k3 => fin u _ _ ((hU1.tr hU2).tr hU3) k3 ?_)
        unfold t_rr t_up
        refine Prod.ext (funext fun q => ?_) (Prod.ext (funext fun q => ?_) (Prod.ext (funext fun q => ?_) (Prod.ext rfl ?_)))
        · show (if q = p then S.2.1 r else S.1 q) = (if q = p then S.2.1 r else if S.2.2.1 p = some q ∧ ¬ S.2.1 q = some p then some r else S.1 q)
          rw [if_neg (c := S.2.2.1 p = some q ∧ ¬ S.2.1 q = some p) (fun t => t.2 (by have := t.1; rw [hg] at this; cases this; exact z))]
        · show (if q = r then some p else if q = g then some r else S.2.1 q) = (if q = r then some p else if S.2.2.1 p = some q ∧ S.2.1 q = some p then some r else S.2.1 q)
          by_cases y : q = g
          · subst y; rw [if_pos (c := q = q) rfl, if_pos (c := S.2.2.1 p = some q ∧ S.2.1 q = some p) ⟨hg, z⟩]
          · rw [if_neg (c := q = g) y, if_neg (c := S.2.2.1 p = some q ∧ S.2.1 q = some p) (fun t => y (by have := t.1; rw [hg] at this; cases this; rfl))]
        · simp [hx, hg]
        · simp [hg]
      · refine ifF z (tl_g4 k2 hp ?_)
        show f_put E u2 (t_up S.2.2.1 r (S.2.2.1 p) p) 23 2 _ _
        rw [eP, hg]
        refine tl_p2 hU2.1.ok k2 g1 (fun u3 hU3 k3 => fin u _ _ ((hU1.tr hU2).tr hU3) k3 ?_)
        unfold t_rr t_up
        refine Prod.ext (funext fun q => ?_) (Prod.ext (funext fun q => ?_) (Prod.ext (funext fun q => ?_) (Prod.ext rfl ?_)))
        · show (if q = g then some r else if q = p then S.2.1 r else S.1 q) = (if q = p then S.2.1 r else if S.2.2.1 p = some q ∧ ¬ S.2.1 q = some p then some r else S.1 q)
          by_cases y : q = g
          · subst y; rw [if_pos (show q = q from rfl), if_neg g3, if_pos ⟨hg, z⟩]
          · rw [if_neg y, if_neg (c := S.2.2.1 p = some q ∧ ¬ S.2.1 q = some p) (fun t => y (by have := t.1; rw [hg] at this; cases this; rfl))]
        · show (if q = r then some p else S.2.1 q) = (if q = r then some p else if S.2.2.1 p = some q ∧ S.2.1 q = some p then some r else S.2.1 q)
          rw [if_neg (c := S.2.2.1 p = some q ∧ S.2.1 q = some p) (fun t => z (by have := t.1; rw [hg] at this; cases this; exact t.2))]
        · simp [hx, hg]
        · simp [hg]
  | some x =>
    obtain ⟨x1, x2, x3, x4⟩ := m1 x hx
    have xp := hxp x hx
    refine ifF (by simp) (tl_g3 k1 r1 ?_)
    show f_put E u1 (S.2.1 r) 23 4 _ _
    rw [hx]
    refine tl_p4 hU1.1.ok k1 x1 (fun u2 hU2 k2 => tl_g4 k2 hp ?_)
    have eP0 : t_up S.2.2.1 x (some p) p = S.2.2.1 p := by unfold t_up; rw [if_neg (Ne.symm xp)]
    show f_put E u2 (some r) 23 4 (va_rf (t_up S.2.2.1 x (some p) p)) _
    rw [eP0]
    refine tl_p4 hU2.1.ok k2 r1 (fun u3 hU3 k3 => tl_g4 k3 hp ?_)
    have eP : t_up (t_up S.2.2.1 x (some p)) r (S.2.2.1 p) p = S.2.2.1 p := by unfold t_up; rw [if_neg hpr, if_neg (Ne.symm xp)]
    show if t_up (t_up S.2.2.1 x (some p)) r (S.2.2.1 p) p = none then _ else _
    rw [eP]
    have ePf : ∀ q, (if q = p then some r else if q = r then S.2.2.1 p else if q = x then some p else S.2.2.1 q) = (if q = p then some r else if q = r then S.2.2.1 p else if some x = some q then some p else S.2.2.1 q) := by
      intro q
      by_cases y : q = x
      · subst y; simp
      · simp [y, Ne.symm y]
    cases hg : S.2.2.1 p with
    | none =>
      refine ifT rfl (tl_pr hU3.1.ok k3 (fun u4 hU4 k4 => fin u _ _ (((hU1.tr hU2).tr hU3).tr hU4) k4 ?_))
      unfold t_rr t_up
      refine Prod.ext (funext fun q => ?_) (Prod.ext (funext fun q => ?_) (Prod.ext (funext fun q => ?_) (Prod.ext rfl ?_)))
      · simp [hg, hx]
      · simp [hg]
      · have := ePf q
        rw [hg] at this
        simp only [hg, hx]
        exact this
      · simp [hg]
    | some g =>
      obtain ⟨g1, g2, g3⟩ := n4 g hg
      have gr := hgr g hg
      refine ifF (by simp) (tl_g4 k3 hp ?_)
      show f_getr u3 (t_up (t_up S.2.2.1 x (some p)) r (S.2.2.1 p) p) 23 3 _
      rw [eP, hg]
      refine tl_g3 k3 g1 ?_
      show if S.2.1 g = some p then _ else _
      by_cases z : S.2.1 g = some p
      · refine ifT z (tl_g4 k3 hp ?_)
        show f_put E u3 (t_up (t_up S.2.2.1 x (some p)) r (S.2.2.1 p) p) 23 3 _ _
        rw [eP, hg]
        refine tl_p3 hU3.1.ok k3 g1 (fun u4 hU4 k4 => fin u _ _ (((hU1.tr hU2).tr hU3).tr hU4) k4 ?_)
        unfold t_rr t_up
        refine Prod.ext (funext fun q => ?_) (Prod.ext (funext fun q => ?_) (Prod.ext (funext fun q => ?_) (Prod.ext rfl ?_)))
        · show (if q = p then S.2.1 r else S.1 q) = (if q = p then S.2.1 r else if S.2.2.1 p = some q ∧ ¬ S.2.1 q = some p then some r else S.1 q)
          rw [if_neg (c := S.2.2.1 p = some q ∧ ¬ S.2.1 q = some p) (fun t => t.2 (by have := t.1; rw [hg] at this; cases this; exact z))]
        · show (if q = r then some p else if q = g then some r else S.2.1 q) = (if q = r then some p else if S.2.2.1 p = some q ∧ S.2.1 q = some p then some r else S.2.1 q)
          by_cases y : q = g
          · subst y; rw [if_pos (c := q = q) rfl, if_pos (c := S.2.2.1 p = some q ∧ S.2.1 q = some p) ⟨hg, z⟩]
          · rw [if_neg (c := q = g) y, if_neg (c := S.2.2.1 p = some q ∧ S.2.1 q = some p) (fun t => y (by have := t.1; rw [hg] at this; cases this; rfl))]
        · have := ePf q
          simp only [hx]
          rw [hg] at this ⊢
          exact this
        · simp [hg]
      · refine ifF z (tl_g4 k3 hp ?_)
        show f_put E u3 (t_up (t_up S.2.2.1 x (some p)) r (S.2.2.1 p) p) 23 2 _ _
        rw [eP, hg]
        refine tl_p2 hU3.1.ok k3 g1 (fun u4 hU4 k4 => fin u _ _ (((hU1.tr hU2).tr hU3).tr hU4) k4 ?_)
        unfold t_rr t_up
        refine Prod.ext (funext fun q => ?_) (Prod.ext (funext fun q => ?_) (Prod.ext (funext fun q => ?_) (Prod.ext rfl ?_)))
        · show (if q = g then some r else if q = p then S.2.1 r else S.1 q) = (if q = p then S.2.1 r else if S.2.2.1 p = some q ∧ ¬ S.2.1 q = some p then some r else S.1 q)
          by_cases y : q = g
          · subst y; rw [if_pos (show q = q from rfl), if_neg g3, if_pos ⟨hg, z⟩]
          · rw [if_neg y, if_neg (c := S.2.2.1 p = some q ∧ ¬ S.2.1 q = some p) (fun t => y (by have := t.1; rw [hg] at this; cases this; rfl))]
        · show (if q = r then some p else S.2.1 q) = (if q = r then some p else if S.2.2.1 p = some q ∧ S.2.1 q = some p then some r else S.2.1 q)
          rw [if_neg (c := S.2.2.1 p = some q ∧ S.2.1 q = some p) (fun t => z (by have := t.1; rw [hg] at this; cases this; exact t.2))]
        · have := ePf q
          simp only [hx]
          rw [hg] at this ⊢
          exact this
        · simp [hg]
end
