set_option maxRecDepth 100000
/-! the component: TreeMap: what is mended behind an insertion -/
section
variable {E : pw_E} {d : Nat} {u : pw_W} {m : Nat} {v : tV} {xs : List tE} {S : tS}
theorem tm_par (hd : 1 ≤ d) (k : c_tL E u.1 m v xs S) {a : Nat} (ha : a ∈ t_ids xs) {o : Option Nat} (hq : S.2.2.1 a = o) {K : Option Nat → pw_W → Prop} (H : K o u) : pw_Cl E m_J18_parentOf d [va_rf (some a)] u (c_r K) :=
  tm_parentOf_ok hd k (fun b hb => by cases hb; exact ha) (by rw [← hq] at H; exact H)
theorem tm_par0 (hd : 1 ≤ d) (k : c_tL E u.1 m v xs S) {K : Option Nat → pw_W → Prop} (H : K none u) : pw_Cl E m_J18_parentOf d [va_rf none] u (c_r K) :=
  tm_parentOf_ok hd k (fun b hb => by cases hb) H
theorem tm_lef (hd : 1 ≤ d) (k : c_tL E u.1 m v xs S) {a : Nat} (ha : a ∈ t_ids xs) {o : Option Nat} (hq : S.1 a = o) {K : Option Nat → pw_W → Prop} (H : K o u) : pw_Cl E m_J18_leftOf d [va_rf (some a)] u (c_r K) :=
  tm_leftOf_ok hd k (fun b hb => by cases hb; exact ha) (by rw [← hq] at H; exact H)
theorem tm_lef0 (hd : 1 ≤ d) (k : c_tL E u.1 m v xs S) {K : Option Nat → pw_W → Prop} (H : K none u) : pw_Cl E m_J18_leftOf d [va_rf none] u (c_r K) :=
  tm_leftOf_ok hd k (fun b hb => by cases hb) H
theorem tm_rig (hd : 1 ≤ d) (k : c_tL E u.1 m v xs S) {a : Nat} (ha : a ∈ t_ids xs) {o : Option Nat} (hq : S.2.1 a = o) {K : Option Nat → pw_W → Prop} (H : K o u) : pw_Cl E m_J18_rightOf d [va_rf (some a)] u (c_r K) :=
  tm_rightOf_ok hd k (fun b hb => by cases hb; exact ha) (by rw [← hq] at H; exact H)
theorem tm_set (hd : 1 ≤ d) (hw : wf E u) (k : c_tL E u.1 m v xs S) {a : Nat} (ha : a ∈ t_ids xs) {b : Bool} {K : pw_W → Prop} (H : ∀ u', tU E m xs u u' → c_tL E u'.1 m v xs (S.1, S.2.1, S.2.2.1, t_up S.2.2.2.1 a b, S.2.2.2.2) → K u') : pw_Cl E m_J18_setColor d [va_rf (some a), .int (bI b)] u (c_v K) :=
  tm_setColor_ok hd hw k (fun c hc => by cases hc; exact ha) (fun h => by cases h) (fun c u' hc h1 h2 => by cases hc; exact H u' h1 h2)
theorem tm_set0 (hd : 1 ≤ d) {b : Bool} {K : pw_W → Prop} (H : K u) : pw_Cl E m_J18_setColor d [va_rf none, .int (bI b)] u (c_v K) := by
  replace hd := pw_d1 hd; obtain ⟨e, rfl, hd⟩ := hd
  exact e_J18_setColor _ _ (s_J18_setColor_0 _ _ (ifT rfl ⟨rfl, H⟩))
theorem tm_rotL0 (hd : 1 ≤ d) {K : pw_W → Prop} (H : K u) : pw_Cl E m_J18_rotateLeft d [va_rf (some m), va_rf none] u (c_v K) := by
  replace hd := pw_d1 hd; obtain ⟨e, rfl, hd⟩ := hd
  exact e_J18_rotateLeft _ _ (s_J18_rotateLeft_0 _ _ (ifT rfl ⟨rfl, H⟩))
/-- the root is made black -/
theorem tm_fin (hw : wf E u) (k : c_tL E u.1 m v xs S) (hI : t_I xs S) (hne : t_ids xs ≠ []) {K : pw_W → Prop} (H : ∀ u' S', tU E m xs u u' → c_tL E u'.1 m v xs S' → t_I xs S' → K u') : f_getr u (some m) 22 3 (fun x => f_put E u x 23 5 (.int 1) (fun w => c_v K (.inl none) w)) := by
  refine tl_gr k ?_
  cases hr : S.2.2.2.2 with
  | none => exact absurd (hI.root0 hr) hne
  | some b => exact tl_p5 (b := true) hw k (hI.root hr) (fun u' h1 h2 => ⟨rfl, H u' _ h1 h2 hI⟩)
theorem tm_exit {e a : Nat} (hw : wf E u) (k : c_tL E u.1 m v xs S) (hI : t_I xs S) (ha : a ∈ t_ids xs) (hq : ∀ q, S.2.2.1 a = some q → S.2.2.2.1 q = true) {K : pw_W → Prop} (H : ∀ u' S', tU E m xs u u' → c_tL E u'.1 m v xs S' → t_I xs S' → K u') : pw_Wp E m_J18_fixAfterInsertion (e + 1) 5 [some (va_rf (some m)), some (va_rf (some a)), none] [] u (c_v K) := by
  have hne : t_ids xs ≠ [] := fun z => by rw [z] at ha; cases ha
  refine s_J18_fixAfterInsertion_5 _ _ (ifF (by simp) (tl_gr k ?_))
  by_cases z : some a = S.2.2.2.2
  · exact ifT z (tm_fin hw k hI hne H)
  · refine ifF z (tl_g4 k ha ?_)
    obtain ⟨-, -, n3, n4⟩ := hI.nb ha
    cases hp : S.2.2.1 a with
    | none => exact absurd (n3 hp).symm z
    | some q =>
      refine tl_g5 k (n4 q hp).1 ?_
      rw [hq q hp]
      exact ifF (by decide) (tm_fin hw k hI hne H)
/-- the end of a mending to the left -/
theorem tm_tailL {e a q g : Nat} (he : 1 ≤ e) (hw : wf E u) (k : c_tL E u.1 m v xs S) (hI : t_I xs S) (ha : a ∈ t_ids xs) (h1 : S.1 q = some a) (hq : q ∈ t_ids xs) (h2 : S.1 g = some q) (hg : g ∈ t_ids xs) {K : pw_W → Prop} (H : ∀ u' S', tU E m xs u u' → c_tL E u'.1 m v xs S' → t_I xs S' → K u') : pw_Wp E m_J18_fixAfterInsertion (e + 1) 118 [some (va_rf (some m)), some (va_rf (some a)), none] [] u (c_v K) := by
  obtain ⟨q1, -, -, -⟩ := hI.nb hq
  obtain ⟨g1, -, -, -⟩ := hI.nb hg
  obtain ⟨-, p1, p2, p3⟩ := q1 a h1
  obtain ⟨-, p4, p5, p6⟩ := g1 q h2
  refine s_J18_fixAfterInsertion_118 _ _ (tm_par he k ha p1 (tm_set (b := true) he hw k hq (fun u1 hU1 k1 => tm_par he k1 ha p1 (tm_par he k1 hq p4 (tm_set (b := false) he hU1.1.ok k1 hg (fun u2 hU2 k2 => tm_par he k2 ha p1 (tm_par he k2 hq p4 ⟨m, _, rfl, k2.1, tm_rotateRight_ok he hU2.1.ok k2 hI hg h2 (fun u3 hU3 k3 => ?_)⟩)))))))
  refine tm_exit hU3.1.ok k3 (t_I.rr (S := (S.1, S.2.1, S.2.2.1, t_up (t_up S.2.2.2.1 q true) g false, S.2.2.2.2)) hI hg h2) ha (fun q' hq' => ?_) (fun u' S' hU k4 hI' => H u' S' (((hU1.tr hU2).tr hU3).tr hU) k4 hI')
  have ag : a ≠ g := by
    rintro rfl
    obtain ⟨lo, hi, hh⟩ := hI
    obtain ⟨i, hi0⟩ := mem_ix ha
    obtain ⟨j, hj0⟩ := mem_ix hq
    obtain ⟨-, a2, -, -, a5, -⟩ := hh.2.1 i a hi0
    obtain ⟨-, b2, -, -, b5, -⟩ := hh.2.1 j q hj0
    have := a5 q h2
    have := b5 a h1
    omega
  have e1 : (if a = g then some q else if a = q then S.2.2.1 g else if S.2.1 q = some a then some g else S.2.2.1 a) = some q' := hq'
  rw [if_neg ag, if_neg p2, if_neg p3, p1] at e1
  cases e1
  show t_up (t_up S.2.2.2.1 q true) g false q = true
  unfold t_up
  rw [if_neg p5, if_pos rfl]
/-- the end of a mending to the right -/
theorem tm_tailR {e a q : Nat} (he : 1 ≤ e) (hw : wf E u) (k : c_tL E u.1 m v xs S) (hI : t_I xs S) (ha : a ∈ t_ids xs) (h1 : S.2.1 q = some a) (hq : q ∈ t_ids xs) (h2 : ∀ g, S.2.2.1 q = some g → S.2.1 g = some q) {K : pw_W → Prop} (H : ∀ u' S', tU E m xs u u' → c_tL E u'.1 m v xs S' → t_I xs S' → K u') :
    pw_Cl E m_J18_parentOf e [va_rf (some a)] u (c_r (fun o58 w57 => pw_Cl E m_J18_setColor e [va_rf o58, .int 1] w57 (c_v (fun w59 => pw_Cl E m_J18_parentOf e [va_rf (some a)] w59 (c_r (fun o61 w60 => pw_Cl E m_J18_parentOf e [va_rf o61] w60 (c_r (fun o63 w62 => pw_Cl E m_J18_setColor e [va_rf o63, .int 0] w62 (c_v (fun w64 => pw_Cl E m_J18_parentOf e [va_rf (some a)] w64 (c_r (fun o66 w65 => pw_Cl E m_J18_parentOf e [va_rf o66] w65 (c_r (fun o68 w67 => f_V E w67 (some m) 22 m_J18_rotateLeft e [va_rf o68] (c_v (fun w69 => pw_Wp E m_J18_fixAfterInsertion (e + 1) 5 [some (va_rf (some m)), some (va_rf (some a)), none] [] w69 (c_v K))))))))))))))))) := by
  obtain ⟨-, q1, -, q4⟩ := hI.nb hq
  obtain ⟨-, p1, p2, p3⟩ := q1 a h1
  refine tm_par he k ha p1 (tm_set (b := true) he hw k hq (fun u1 hU1 k1 => tm_par he k1 ha p1 ?_))
  cases hg0 : S.2.2.1 q with
  | none =>
    refine tm_par he k1 hq hg0 (tm_set0 (b := false) he (tm_par he k1 ha p1 (tm_par he k1 hq hg0 ⟨m, _, rfl, k1.1, tm_rotL0 he ?_⟩)))
    refine tm_exit hU1.1.ok k1 hI ha (fun q' hq' => ?_) (fun u' S' hU k4 hI' => H u' S' (hU1.tr hU) k4 hI')
    have hq' : S.2.2.1 a = some q' := hq'
    rw [p1] at hq'
    cases hq'
    show t_up S.2.2.2.1 q true q = true
    unfold t_up
    rw [if_pos rfl]
  | some g =>
    have hg := (q4 g hg0).1
    have h2 := h2 g hg0
    obtain ⟨-, g1, -, -⟩ := hI.nb hg
    obtain ⟨-, p4, p5, p6⟩ := g1 q h2
    refine tm_par he k1 hq p4 (tm_set (b := false) he hU1.1.ok k1 hg (fun u2 hU2 k2 => tm_par he k2 ha p1 (tm_par he k2 hq p4 ⟨m, _, rfl, k2.1, tm_rotateLeft_ok he hU2.1.ok k2 hI hg h2 (fun u3 hU3 k3 => ?_)⟩)))
    refine tm_exit hU3.1.ok k3 (t_I.rl (S := (S.1, S.2.1, S.2.2.1, t_up (t_up S.2.2.2.1 q true) g false, S.2.2.2.2)) hI hg h2) ha (fun q' hq' => ?_) (fun u' S' hU k4 hI' => H u' S' (((hU1.tr hU2).tr hU3).tr hU) k4 hI')
    have ag : a ≠ g := by
      rintro rfl
      obtain ⟨lo, hi, hh⟩ := hI
      obtain ⟨i, hi0⟩ := mem_ix ha
      obtain ⟨j, hj0⟩ := mem_ix hq
      obtain ⟨a1, a2, -, -, -, -, a7, -⟩ := hh.2.1 i a hi0
      obtain ⟨b1, b2, -, -, -, -, b7, -⟩ := hh.2.1 j q hj0
      have := a7 q h2
      have := b7 a h1
      omega
    have e1 : (if a = g then some q else if a = q then S.2.2.1 g else if S.1 q = some a then some g else S.2.2.1 a) = some q' := hq'
    rw [if_neg ag, if_neg p2, if_neg p3, p1] at e1
    cases e1
    show t_up (t_up S.2.2.2.1 q true) g false q = true
    unfold t_up
    rw [if_neg p5, if_pos rfl]
theorem tm_fixLoop {e : Nat} (he : 2 ≤ e) {K : pw_W → Prop} : ∀ (f : Nat) (u : pw_W) (S : tS) (lo hi : Nat → Nat) (a : Nat), wf E u → c_tL E u.1 m v xs S → tI (t_ids xs) S.1 S.2.1 S.2.2.1 lo hi S.2.2.2.2 → a ∈ t_ids xs → (t_ids xs).length < f + (hi a - lo a) → (∀ u' S', tU E m xs u u' → c_tL E u'.1 m v xs S' → t_I xs S' → K u') → pw_Wp E m_J18_fixAfterInsertion (e + 1) 5 [some (va_rf (some m)), some (va_rf (some a)), none] [] u (c_v K) := by
  intro f
  induction f with
  | zero =>
    intro u S lo hi a hw k hT ha hf H
    obtain ⟨i, hi0⟩ := mem_ix ha
    obtain ⟨a1, a2, a3, -⟩ := hT.2.1 i a hi0
    omega
  | succ f ih =>
    intro u S lo hi a hw k hT ha hf H
    have hI : t_I xs S := ⟨lo, hi, hT⟩
    have hne : t_ids xs ≠ [] := fun z => by rw [z] at ha; cases ha
    refine s_J18_fixAfterInsertion_5 _ _ (ifF (by simp) (tl_gr k ?_))
    by_cases z : some a = S.2.2.2.2
    · exact ifT z (tm_fin hw k hI hne H)
    refine ifF z (tl_g4 k ha ?_)
    obtain ⟨na1, na2, n3, n4⟩ := hI.nb ha
    cases hp : S.2.2.1 a with
    | none => exact absurd (n3 hp).symm z
    | some q =>
      obtain ⟨hq, hqc, hqa⟩ := n4 q hp
      refine tl_g5 k hq ?_
      cases hc : S.2.2.2.1 q with
      | true => exact ifF (by decide) (tm_fin hw k hI hne H)
      | false =>
        obtain ⟨nq1, nq2, nq3, nq4⟩ := hI.nb hq
        have he1 : 1 ≤ e := by omega
        /- the uncle is red -/
        have red : ∀ (g y : Nat), S.2.2.1 q = some g → y ∈ t_ids xs → ∀ (u3 : pw_W), tU E m xs u u3 → c_tL E u3.1 m v xs (S.1, S.2.1, S.2.2.1, t_up (t_up (t_up S.2.2.2.1 q true) y true) g false, S.2.2.2.2) → pw_Wp E m_J18_fixAfterInsertion (e + 1) 5 [some (va_rf (some m)), some (va_rf (some g)), none] [] u3 (c_v K) := by
          intro g y hg hy u3 hU3 k3
          obtain ⟨hg1, hg2, hg3⟩ := nq4 g hg
          refine ih u3 _ lo hi g hU3.1.ok k3 hT hg1 ?_ (fun u' S' hU k4 hI' => H u' S' (hU3.tr hU) k4 hI')
          obtain ⟨i, hi0⟩ := mem_ix ha
          obtain ⟨j, hj0⟩ := mem_ix hq
          obtain ⟨c, hc0⟩ := mem_ix hg1
          obtain ⟨a1, a2, a3, a4, a5, a6, a7, a8, a9⟩ := hT.2.1 i a hi0
          obtain ⟨b1, b2, b3, b4, b5, b6, b7, b8, b9⟩ := hT.2.1 j q hj0
          obtain ⟨c1, c2, c3, c4, c5, c6, c7, c8, c9⟩ := hT.2.1 c g hc0
          rcases hqc with t | t
          · have := b5 a t
            rcases hg2 with s | s
            · have := c5 q s; omega
            · have := c7 q s; omega
          · have := b7 a t
            rcases hg2 with s | s
            · have := c5 q s; omega
            · have := c7 q s; omega
        refine ifT (by decide) (tm_par he1 k ha hp (tm_par he1 k ha hp ?_))
        /- to the right, the uncle black -/
        have rgt : (∀ g, S.2.2.1 q = some g → S.2.1 g = some q) → pw_Cl E m_J18_parentOf e [va_rf (some a)] u (c_r (fun o54 w53 => pw_Cl E m_J18_leftOf e [va_rf o54] w53 (c_r (fun o56 w55 => (if some a = o56 then pw_Cl E m_J18_parentOf e [va_rf (some a)] w55 (c_r (fun o74 w73 => f_V E w73 (some m) 22 m_J18_rotateRight e [va_rf o74] (c_v (fun w75 => pw_Cl E m_J18_parentOf e [va_rf o74] w75 (c_r (fun o80 w79 => pw_Cl E m_J18_setColor e [va_rf o80, .int 1] w79 (c_v (fun w81 => pw_Cl E m_J18_parentOf e [va_rf o74] w81 (c_r (fun o83 w82 => pw_Cl E m_J18_parentOf e [va_rf o83] w82 (c_r (fun o85 w84 => pw_Cl E m_J18_setColor e [va_rf o85, .int 0] w84 (c_v (fun w86 => pw_Cl E m_J18_parentOf e [va_rf o74] w86 (c_r (fun o88 w87 => pw_Cl E m_J18_parentOf e [va_rf o88] w87 (c_r (fun o90 w89 => f_V E w89 (some m) 22 m_J18_rotateLeft e [va_rf o90] (c_v (fun w91 => pw_Wp E m_J18_fixAfterInsertion (e + 1) 5 [some (va_rf (some m)), some (va_rf o74), none] [] w91 (c_v K))))))))))))))))))))) else pw_Cl E m_J18_parentOf e [va_rf (some a)] w55 (c_r (fun o58 w57 => pw_Cl E m_J18_setColor e [va_rf o58, .int 1] w57 (c_v (fun w59 => pw_Cl E m_J18_parentOf e [va_rf (some a)] w59 (c_r (fun o61 w60 => pw_Cl E m_J18_parentOf e [va_rf o61] w60 (c_r (fun o63 w62 => pw_Cl E m_J18_setColor e [va_rf o63, .int 0] w62 (c_v (fun w64 => pw_Cl E m_J18_parentOf e [va_rf (some a)] w64 (c_r (fun o66 w65 => pw_Cl E m_J18_parentOf e [va_rf o66] w65 (c_r (fun o68 w67 => f_V E w67 (some m) 22 m_J18_rotateLeft e [va_rf o68] (c_v (fun w69 => pw_Wp E m_J18_fixAfterInsertion (e + 1) 5 [some (va_rf (some m)), some (va_rf (some a)), none] [] w69 (c_v K)))))))))))))))))))))) := by
          intro h2
          refine tm_par he1 k ha hp (tm_lef he1 k hq rfl ?_)
          by_cases y : some a = S.1 q
          · refine ifT y (tm_par he1 k ha hp ⟨m, _, rfl, k.1, tm_rotateRight_ok he1 hw k hI hq y.symm (fun u1 hU1 k1 => ?_)⟩)
            have hI1 := hI.rr hq y.symm
            have hR : (t_rr S q a).2.1 a = some q := by show (if a = a then some q else _) = some q; rw [if_pos rfl]
            refine tm_tailR he1 hU1.1.ok k1 hI1 hq hR ha (fun g hg => ?_) (fun u' S' hU k4 hI' => H u' S' (hU1.tr hU) k4 hI')
            have hgg : (if a = q then some a else if a = a then S.2.2.1 q else if S.2.1 a = some a then some q else S.2.2.1 a) = some g := hg
            rw [if_neg (Ne.symm hqa), if_pos rfl] at hgg
            clear hg
            show (if g = a then some q else if S.2.2.1 q = some g ∧ S.2.1 g = some q then some a else S.2.1 g) = some a
            by_cases x : g = a
            · subst x
              have := (na2 q (h2 g hgg)).2.1
              obtain ⟨i, hi0⟩ := mem_ix ha
              obtain ⟨j, hj0⟩ := mem_ix hq
              obtain ⟨a1, a2, a3, a4, a5, a6, a7, a8, a9⟩ := hT.2.1 i g hi0
              obtain ⟨b1, b2, b3, b4, b5, b6, b7, b8, b9⟩ := hT.2.1 j q hj0
              have := a7 q (h2 g hgg)
              have := b5 g y.symm
              omega
            · rw [if_neg x, if_pos ⟨hgg, h2 g hgg⟩]
          · have hR : S.2.1 q = some a := hqc.resolve_left (fun t => y t.symm)
            exact ifF y (tm_tailR he1 hw k hI ha hR hq h2 H)
        cases hg0 : S.2.2.1 q with
        | none =>
          refine tm_par he1 k hq hg0 (tm_lef0 he1 k (ifF (by simp) (tm_par he1 k ha hp (tm_par he1 k hq hg0 (tm_lef0 he1 k (tm_colorOf_ok he1 k (fun b hb => by cases hb) (ifF (show ¬ bI true = 0 by decide) (rgt (fun g hg => by rw [hg0] at hg; cases hg)))))))))
        | some g =>
          obtain ⟨hg1, hg2, hg3⟩ := nq4 g hg0
          obtain ⟨ng1, ng2, ng3, ng4⟩ := hI.nb hg1
          refine tm_par he1 k hq hg0 (tm_lef he1 k hg1 rfl ?_)
          by_cases y : some q = S.1 g
          · refine ifT y (tm_par he1 k ha hp (tm_par he1 k hq hg0 (tm_rig he1 k hg1 rfl (tm_colorOf_ok he1 k (fun b hb => (ng2 b hb).1) ?_))))
            by_cases x : (Option.map S.2.2.2.1 (S.2.1 g)).getD true = true
            · rw [x]
              refine ifF (by decide) (tm_par he1 k ha hp (tm_rig he1 k hq rfl ?_))
              by_cases t : some a = S.2.1 q
              · refine ifT t (tm_par he1 k ha hp ⟨m, _, rfl, k.1, tm_rotateLeft_ok he1 hw k hI hq t.symm (fun u1 hU1 k1 => ?_)⟩)
                have hI1 := hI.rl hq t.symm
                have hL : (t_rl S q a).1 a = some q := by show (if a = a then some q else _) = some q; rw [if_pos rfl]
                have ga : g ≠ a := by
                  rintro rfl
                  obtain ⟨i, hi0⟩ := mem_ix ha
                  obtain ⟨j, hj0⟩ := mem_ix hq
                  obtain ⟨a1, a2, a3, a4, a5, a6, a7, a8, a9⟩ := hT.2.1 i g hi0
                  obtain ⟨b1, b2, b3, b4, b5, b6, b7, b8, b9⟩ := hT.2.1 j q hj0
                  have := a5 q y.symm
                  have := b7 g t.symm
                  omega
                have hL2 : (t_rl S q a).1 g = some a := by
                  show (if g = a then some q else if S.2.2.1 q = some g ∧ S.1 g = some q then some a else S.1 g) = some a
                  rw [if_neg ga, if_pos ⟨hg0, y.symm⟩]
                exact tm_tailL he1 hU1.1.ok k1 hI1 hq hL ha hL2 hg1 (fun u' S' hU k4 hI' => H u' S' (hU1.tr hU) k4 hI')
              · have hL : S.1 q = some a := hqc.resolve_right (fun z => t z.symm)
                exact ifF t (tm_tailL he1 hw k hI ha hL hq y.symm hg1 H)
            · rw [Bool.not_eq_true] at x
              rw [x]
              cases hy : S.2.1 g with
              | none => rw [hy] at x; cases x
              | some y' =>
                have hy1 := (ng2 y' hy).1
                refine ifT (by decide) (tm_par he1 k ha hp (tm_set (b := true) he1 hw k hq (fun u1 hU1 k1 => tm_set (b := true) he1 hU1.1.ok k1 hy1 (fun u2 hU2 k2 => tm_par he1 k2 ha hp (tm_par he1 k2 hq hg0 (tm_set (b := false) he1 hU2.1.ok k2 hg1 (fun u3 hU3 k3 => tm_par he1 k3 ha hp (tm_par he1 k3 hq hg0 (red g y' hg0 hy1 u3 ((hU1.tr hU2).tr hU3) k3)))))))))
          · have hRg : S.2.1 g = some q := hg2.resolve_left (fun t => y t.symm)
            refine ifF y (tm_par he1 k ha hp (tm_par he1 k hq hg0 (tm_lef he1 k hg1 rfl (tm_colorOf_ok he1 k (fun b hb => (ng1 b hb).1) ?_))))
            by_cases x : (Option.map S.2.2.2.1 (S.1 g)).getD true = true
            · rw [x]
              exact ifF (by decide) (rgt (fun g' hg' => by rw [hg0] at hg'; cases hg'; exact hRg))
            · rw [Bool.not_eq_true] at x
              rw [x]
              cases hy : S.1 g with
              | none => rw [hy] at x; cases x
              | some y' =>
                have hy1 := (ng1 y' hy).1
                refine ifT (by decide) (tm_par he1 k ha hp (tm_set (b := true) he1 hw k hq (fun u1 hU1 k1 => tm_set (b := true) he1 hU1.1.ok k1 hy1 (fun u2 hU2 k2 => tm_par he1 k2 ha hp (tm_par he1 k2 hq hg0 (tm_set (b := false) he1 hU2.1.ok k2 hg1 (fun u3 hU3 k3 => tm_par he1 k3 ha hp (tm_par he1 k3 hq hg0 (red g y' hg0 hy1 u3 ((hU1.tr hU2).tr hU3) k3)))))))))
theorem tm_fix_ok (hd : 3 ≤ d) (hw : wf E u) (k : c_tL E u.1 m v xs S) (hI : t_I xs S) {a : Nat} (ha : a ∈ t_ids xs) {K : pw_W → Prop} (H : ∀ u' S', tU E m xs u u' → c_tL E u'.1 m v xs S' → t_I xs S' → K u') : pw_Cl E m_J18_fixAfterInsertion d [va_rf (some m), va_rf (some a)] u (c_v K) := by
  replace hd := pw_d1 hd; obtain ⟨e, rfl, hd⟩ := hd
  refine e_J18_fixAfterInsertion _ _ (s_J18_fixAfterInsertion_0 _ _ (tl_p5 (b := false) hw k ha (fun u1 hU1 k1 => ?_)))
  obtain ⟨lo, hi, hT⟩ := hI
  exact tm_fixLoop hd ((t_ids xs).length + 1) u1 _ lo hi a hU1.1.ok k1 hT ha (by omega) (fun u' S' hU k4 hI' => H u' S' (hU1.tr hU) k4 hI')
end
