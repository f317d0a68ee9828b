set_option maxRecDepth 100000
/-! the component: trees, by links and by ranges of places -/
/-- ids: the nodes in their order; left, right, up; each node's range of places; the root -/
def tI (ids : List Nat) (L R P : Nat → Option Nat) (lo hi : Nat → Nat) (root : Option Nat) : Prop :=
  ids.Nodup ∧
  (∀ (i a : Nat), ids[i]? = some a → lo a ≤ i ∧ i < hi a ∧ hi a ≤ ids.length ∧
    (L a = none → lo a = i) ∧ (∀ b, L a = some b → b ∈ ids ∧ lo b = lo a ∧ hi b = i ∧ P b = some a) ∧
    (R a = none → hi a = i + 1) ∧ (∀ b, R a = some b → b ∈ ids ∧ lo b = i + 1 ∧ hi b = hi a ∧ P b = some a) ∧
    (P a = none → root = some a) ∧ (∀ g, P a = some g → g ∈ ids ∧ (L g = some a ∨ R g = some a))) ∧
  (∀ a, root = some a → a ∈ ids ∧ lo a = 0 ∧ hi a = ids.length ∧ P a = none) ∧ (root = none → ids = [])
theorem nd_ix {ids : List Nat} (h : ids.Nodup) {i k a : Nat} (hi : ids[i]? = some a) (hk : ids[k]? = some a) : i = k := by
  have h1 := (List.getElem?_eq_some_iff.mp hi).1
  exact (List.getElem?_inj h1 h).mp (hi.trans hk.symm)
theorem mem_ix {ids : List Nat} {a : Nat} (h : a ∈ ids) : ∃ i : Nat, ids[i]? = some a := List.getElem?_of_mem h
theorem tI.nd {ids : List Nat} {L R P : Nat → Option Nat} {lo hi : Nat → Nat} {root : Option Nat} (h : tI ids L R P lo hi root) : ids.Nodup := h.1
/-- no node is its own child or parent -/
theorem tI.up_ne {ids : List Nat} {L R P : Nat → Option Nat} {lo hi : Nat → Nat} {root : Option Nat} (h : tI ids L R P lo hi root) {i a g : Nat} (ha : ids[i]? = some a) (hg : P a = some g) : g ≠ a := by
  rintro rfl
  obtain ⟨h1, h2, h3, h4, h5, h6, h7, h8, h9⟩ := h.2.1 i g ha
  rcases (h9 g hg).2 with q | q
  · have := h5 g q
    omega
  · have := h7 g q
    omega
theorem tI.rotL {ids : List Nat} {L R P : Nat → Option Nat} {lo hi : Nat → Nat} {root : Option Nat} (h : tI ids L R P lo hi root) {p r : Nat} (hp : p ∈ ids) (hr : R p = some r) :
    ∃ lo' hi', tI ids (fun q => if q = r then some p else if P p = some q ∧ L q = some p then some r else L q) (fun q => if q = p then L r else if P p = some q ∧ ¬ L q = some p then some r else R q) (fun q => if q = p then some r else if q = r then P p else if L r = some q then some p else P q) lo' hi' (if P p = none then some r else root) := by
  obtain ⟨nd, hN, hR, hE⟩ := id h
  obtain ⟨ip, hip⟩ := mem_ix hp
  obtain ⟨p1, p2, p3, p4, p5, p6, p7, p8, p9⟩ := hN ip p hip
  obtain ⟨rm, r1, r2, r3⟩ := p7 r hr
  obtain ⟨ir, hir⟩ := mem_ix rm
  obtain ⟨s1, s2, s3, s4, s5, s6, s7, s8, s9⟩ := hN ir r hir
  have hpr : p ≠ r := by
    rintro rfl
    omega
  have hgp : ∀ g, P p = some g → g ≠ p := fun g hg => h.up_ne hip hg
  have hgr : ∀ g, P p = some g → g ≠ r := by
    rintro g hg rfl
    rcases (p9 g hg).2 with q | q
    · have := s5 p q; omega
    · have := s7 p q; omega
  refine ⟨fun q => if q = r then lo p else lo q, fun q => if q = p then ir else hi q, nd, ?_, ?_, ?_⟩
  · intro i a ha
    obtain ⟨a1, a2, a3, a4, a5, a6, a7, a8, a9⟩ := hN i a ha
    by_cases ap : a = p
    · subst ap
      have hi0 : i = ip := nd_ix nd ha hip
      subst hi0
      have hL' : ¬ (P a = some a ∧ L a = some a) := fun q => hgp a q.1 rfl
      simp only [if_neg hpr, if_pos rfl, if_neg hL', if_true]
      refine ⟨a1, by omega, by omega, a4, fun b hb => ?_, fun hx => ?_, fun b hb => ?_, fun hx => by simp at hx, fun g hg => ?_⟩
      · obtain ⟨b1, b2, b3, b4⟩ := a5 b hb
        have br : b ≠ r := by rintro rfl; omega
        have bp : b ≠ a := by rintro rfl; omega
        have bx : ¬ L r = some b := fun q => by have := s5 b q; omega
        rw [if_neg br, if_neg bp, if_neg bp, if_neg br, if_neg bx]
        exact ⟨b1, b2, b3, b4⟩
      · have := s4 hx
        omega
      · obtain ⟨b1, b2, b3, b4⟩ := s5 b hb
        have br : b ≠ r := by rintro rfl; omega
        have bp : b ≠ a := by rintro rfl; omega
        rw [if_neg br, if_neg bp, if_neg bp, if_neg br, if_pos hb]
        exact ⟨b1, by omega, b3, rfl⟩
      · cases hg
        exact ⟨rm, Or.inl (if_pos rfl)⟩
    · by_cases ar : a = r
      · subst ar
        have hi0 : i = ir := nd_ix nd ha hir
        subst hi0
        have hR' : ¬ (P p = some a ∧ ¬ L a = some p) := fun q => hgr a q.1 rfl
        simp only [if_pos rfl, if_neg ap, if_neg hR', if_true]
        refine ⟨by omega, by omega, by omega, fun hx => by simp at hx, fun b hb => ?_, a6, fun b hb => ?_, fun hx => ?_, fun g hg => ?_⟩
        · cases hb
          rw [if_neg (Ne.symm ap), if_pos rfl, if_pos rfl]
          exact ⟨hp, rfl, rfl, rfl⟩
        · obtain ⟨b1, b2, b3, b4⟩ := a7 b hb
          have br : b ≠ a := by rintro rfl; omega
          have bp : b ≠ p := by rintro rfl; omega
          have bx : ¬ L a = some b := fun q => by have := a5 b q; omega
          rw [if_neg br, if_neg bp, if_neg bp, if_neg br, if_neg bx]
          exact ⟨b1, b2, b3, b4⟩
        · rw [if_pos hx]
        · obtain ⟨g1, g2⟩ := p9 g hg
          refine ⟨g1, ?_⟩
          rw [if_neg (hgr g hg), if_neg (hgp g hg)]
          by_cases q : L g = some p
          · exact Or.inl (if_pos ⟨hg, q⟩)
          · exact Or.inr (if_pos ⟨hg, q⟩)
      · simp only [if_neg ap, if_neg ar]
        refine ⟨a1, a2, a3, fun hx => ?_, fun b hb => ?_, fun hx => ?_, fun b hb => ?_, fun hx => ?_, fun g hg => ?_⟩
        · by_cases q : P p = some a ∧ L a = some p
          · rw [if_pos q] at hx; cases hx
          · rw [if_neg q] at hx; exact a4 hx
        · by_cases q : P p = some a ∧ L a = some p
          · rw [if_pos q] at hb
            cases hb
            obtain ⟨b1, b2, b3, b4⟩ := a5 p q.2
            rw [if_pos rfl, if_neg (Ne.symm hpr), if_neg (Ne.symm hpr), if_pos rfl]
            exact ⟨rm, b2, by omega, q.1⟩
          · rw [if_neg q] at hb
            obtain ⟨b1, b2, b3, b4⟩ := a5 b hb
            have br : b ≠ r := by rintro rfl; rw [r3] at b4; cases b4; exact ap rfl
            have bp : b ≠ p := by rintro rfl; exact q ⟨b4, hb⟩
            have bx : ¬ L r = some b := fun z => by have := (s5 b z).2.2.2; rw [this] at b4; cases b4; exact ar rfl
            rw [if_neg br, if_neg bp, if_neg bp, if_neg br, if_neg bx]
            exact ⟨b1, b2, b3, b4⟩
        · by_cases q : P p = some a ∧ ¬ L a = some p
          · rw [if_pos q] at hx; cases hx
          · rw [if_neg q] at hx; exact a6 hx
        · by_cases q : P p = some a ∧ ¬ L a = some p
          · rw [if_pos q] at hb
            cases hb
            have hRa : R a = some p := ((p9 a q.1).2).resolve_left q.2
            obtain ⟨b1, b2, b3, b4⟩ := a7 p hRa
            rw [if_pos rfl, if_neg (Ne.symm hpr), if_neg (Ne.symm hpr), if_pos rfl]
            exact ⟨rm, b2, by omega, q.1⟩
          · rw [if_neg q] at hb
            obtain ⟨b1, b2, b3, b4⟩ := a7 b hb
            have br : b ≠ r := by rintro rfl; rw [r3] at b4; cases b4; exact ap rfl
            have bp : b ≠ p := by
              rintro rfl
              have hLa : L a = some b := Classical.byContradiction (fun z => q ⟨b4, z⟩)
              have := a5 b hLa
              omega
            have bx : ¬ L r = some b := fun z => by have := (s5 b z).2.2.2; rw [this] at b4; cases b4; exact ar rfl
            rw [if_neg br, if_neg bp, if_neg bp, if_neg br, if_neg bx]
            exact ⟨b1, b2, b3, b4⟩
        · by_cases q : L r = some a
          · rw [if_pos q] at hx; cases hx
          · rw [if_neg q] at hx
            have hra := a8 hx
            rw [if_neg (fun z => ?_)]
            · exact hra
            · have := p8 z
              rw [hra] at this
              cases this
              exact ap rfl
        · by_cases q : L r = some a
          · rw [if_pos q] at hg
            cases hg
            refine ⟨hp, Or.inr ?_⟩
            rw [if_pos rfl]
            exact q
          · rw [if_neg q] at hg
            obtain ⟨g1, g2⟩ := a9 g hg
            refine ⟨g1, ?_⟩
            rcases g2 with g2 | g2
            · refine Or.inl ?_
              have gr : g ≠ r := by rintro rfl; exact q g2
              rw [if_neg gr, if_neg (fun z => by rw [z.2] at g2; cases g2; exact ap rfl)]
              exact g2
            · refine Or.inr ?_
              have gp : g ≠ p := by rintro rfl; rw [hr] at g2; cases g2; exact ar rfl
              rw [if_neg gp, if_neg (fun z => ?_)]
              · exact g2
              · have := ((p9 g z.1).2).resolve_left z.2
                rw [this] at g2
                cases g2
                exact ap rfl
  · intro a ha
    by_cases q : P p = none
    · rw [if_pos q] at ha
      cases ha
      obtain ⟨t1, t2, t3, t4⟩ := hR p (p8 q)
      simp only [if_pos rfl, if_neg (Ne.symm hpr), if_true]
      exact ⟨rm, t2, by omega, q⟩
    · rw [if_neg q] at ha
      obtain ⟨t1, t2, t3, t4⟩ := hR a ha
      have ap : a ≠ p := by rintro rfl; exact q t4
      have ar : a ≠ r := by rintro rfl; rw [r3] at t4; cases t4
      have ax : ¬ L r = some a := fun z => by have := (s5 a z).2.2.2; rw [t4] at this; cases this
      simp only [if_neg ap, if_neg ar, if_neg ax]
      exact ⟨t1, t2, t3, t4⟩
  · intro ha
    by_cases q : P p = none
    · rw [if_pos q] at ha; cases ha
    · rw [if_neg q] at ha
      exact hE ha
theorem tI.mirror {ids : List Nat} {L R P : Nat → Option Nat} {lo hi : Nat → Nat} {root : Option Nat} (h : tI ids L R P lo hi root) : tI ids.reverse R L P (fun a => ids.length - hi a) (fun a => ids.length - lo a) root := by
  obtain ⟨nd, hN, hR, hE⟩ := h
  have inv : ∀ (i a : Nat), ids.reverse[i]? = some a → i < ids.length ∧ ids[ids.length - 1 - i]? = some a := by
    intro i a ha
    have hl := (List.getElem?_eq_some_iff.mp ha).1
    rw [List.length_reverse] at hl
    rw [List.getElem?_reverse hl] at ha
    exact ⟨hl, ha⟩
  have bnd : ∀ b, b ∈ ids → lo b < hi b ∧ hi b ≤ ids.length := by
    intro b hb
    obtain ⟨k, hk⟩ := mem_ix hb
    obtain ⟨q1, q2, q3, -⟩ := hN k b hk
    omega
  refine ⟨(List.reverse_perm ids).nodup_iff.mpr nd, ?_, ?_, ?_⟩
  · intro i a ha
    obtain ⟨hl, ha⟩ := inv i a ha
    obtain ⟨a1, a2, a3, a4, a5, a6, a7, a8, a9⟩ := hN _ a ha
    simp only [List.length_reverse, List.mem_reverse]
    refine ⟨by omega, by omega, by omega, fun hx => by have := a6 hx; omega, fun b hb => ?_, fun hx => by have := a4 hx; omega, fun b hb => ?_, a8, fun g hg => ?_⟩
    · obtain ⟨b1, b2, b3, b4⟩ := a7 b hb
      have := bnd b b1
      exact ⟨b1, by omega, by omega, b4⟩
    · obtain ⟨b1, b2, b3, b4⟩ := a5 b hb
      have := bnd b b1
      exact ⟨b1, by omega, by omega, b4⟩
    · obtain ⟨g1, g2⟩ := a9 g hg
      exact ⟨g1, g2.symm⟩
  · intro a ha
    obtain ⟨t1, t2, t3, t4⟩ := hR a ha
    simp only [List.length_reverse, List.mem_reverse]
    exact ⟨t1, by omega, by omega, t4⟩
  · intro ha
    rw [hE ha]
    rfl
theorem tI.rotR {ids : List Nat} {L R P : Nat → Option Nat} {lo hi : Nat → Nat} {root : Option Nat} (h : tI ids L R P lo hi root) {p r : Nat} (hp : p ∈ ids) (hr : L p = some r) :
    ∃ lo' hi', tI ids (fun q => if q = p then R r else if P p = some q ∧ ¬ R q = some p then some r else L q) (fun q => if q = r then some p else if P p = some q ∧ R q = some p then some r else R q) (fun q => if q = p then some r else if q = r then P p else if R r = some q then some p else P q) lo' hi' (if P p = none then some r else root) := by
  obtain ⟨lo', hi', h'⟩ := h.mirror.rotL (p := p) (r := r) (List.mem_reverse.mpr hp) hr
  have := h'.mirror
  rw [List.reverse_reverse] at this
  exact ⟨_, _, this⟩
/-- a new leaf to the left of g -/
theorem tI.insL {ids : List Nat} {L R P : Nat → Option Nat} {lo hi : Nat → Nat} {root : Option Nat} (h : tI ids L R P lo hi root) {g j b : Nat} (hg : ids[j]? = some g) (hL : L g = none) (hb : b ∉ ids) :
    ∃ lo' hi', tI (ids.take j ++ b :: ids.drop j) (fun q => if q = b then none else if q = g then some b else L q) (fun q => if q = b then none else R q) (fun q => if q = b then some g else P q) lo' hi' root := by
  obtain ⟨nd, hN, hR, hE⟩ := id h
  have hj := (List.getElem?_eq_some_iff.mp hg).1
  obtain ⟨g1, g2, g3, g4, g5, g6, g7, g8, g9⟩ := hN j g hg
  have glo := g4 hL
  have gm : g ∈ ids := List.mem_of_getElem? hg
  have gb : g ≠ b := by rintro rfl; exact hb gm
  have ix : ∀ (i a : Nat), (ids.take j ++ b :: ids.drop j)[i]? = some a → (i < j ∧ ids[i]? = some a) ∨ (i = j ∧ a = b) ∨ (j < i ∧ ids[i - 1]? = some a) := by
    intro i a ha
    rcases Nat.lt_trichotomy i j with q | q | q
    · rw [List.getElem?_append_left (by simp; omega), List.getElem?_take_of_lt q] at ha
      exact Or.inl ⟨q, ha⟩
    · subst q
      rw [List.getElem?_append_right (by simp; omega)] at ha
      simp [Nat.min_eq_left (Nat.le_of_lt hj)] at ha
      exact Or.inr (Or.inl ⟨rfl, ha.symm⟩)
    · rw [List.getElem?_append_right (by simp; omega), List.length_take, Nat.min_eq_left (Nat.le_of_lt hj)] at ha
      rw [show i - j = (i - j - 1) + 1 by omega, List.getElem?_cons_succ, List.getElem?_drop] at ha
      rw [show j + (i - j - 1) = i - 1 by omega] at ha
      exact Or.inr (Or.inr ⟨q, ha⟩)
  have mem : ∀ a, a ∈ ids.take j ++ b :: ids.drop j ↔ a = b ∨ a ∈ ids := by
    intro a
    rw [List.mem_append, List.mem_cons]
    constructor
    · rintro (q | q | q)
      · exact Or.inr (List.mem_of_mem_take q)
      · exact Or.inl q
      · exact Or.inr (List.mem_of_mem_drop q)
    · rintro (q | q)
      · exact Or.inr (Or.inl q)
      · have : a ∈ ids.take j ++ ids.drop j := by rw [List.take_append_drop]; exact q
        rcases List.mem_append.mp this with z | z
        · exact Or.inl z
        · exact Or.inr (Or.inr z)
  have len : (ids.take j ++ b :: ids.drop j).length = ids.length + 1 := by simp; omega
  refine ⟨fun q => if q = b then j else if j < lo q then lo q + 1 else lo q, fun q => if q = b then j + 1 else if j < hi q then hi q + 1 else hi q, ?_, ?_, ?_, ?_⟩
  · have : (b :: (ids.take j ++ ids.drop j)).Nodup := by
      rw [List.take_append_drop]
      exact List.nodup_cons.mpr ⟨hb, nd⟩
    exact (List.perm_middle.nodup_iff).mpr this
  · intro i a ha
    have ha' := ix i a ha
    by_cases ab : a = b
    · subst ab
      have hi0 : i = j := by
        rcases ha' with ⟨-, q⟩ | ⟨q, -⟩ | ⟨-, q⟩
        · exact absurd (List.mem_of_getElem? q) hb
        · exact q
        · exact absurd (List.mem_of_getElem? q) hb
      subst hi0
      refine ⟨by simp, by simp, by rw [len]; simp; omega, fun _ => by simp, fun c hc => by simp at hc, fun _ => by simp, fun c hc => by simp at hc, fun hx => by simp at hx, fun g' hg' => ?_⟩
      have hgg : g = g' := by simpa using hg'
      subst hgg
      exact ⟨(mem g).mpr (Or.inr gm), Or.inl (by simp [gb])⟩
    · obtain ⟨k, hk, hik⟩ : ∃ k, ids[k]? = some a ∧ ((k < j ∧ i = k) ∨ (j ≤ k ∧ i = k + 1)) := by
        rcases ha' with ⟨q1, q2⟩ | ⟨-, q⟩ | ⟨q1, q2⟩
        · exact ⟨i, q2, Or.inl ⟨q1, rfl⟩⟩
        · exact absurd q ab
        · exact ⟨i - 1, q2, Or.inr ⟨by omega, by omega⟩⟩
      obtain ⟨a1, a2, a3, a4, a5, a6, a7, a8, a9⟩ := hN k a hk
      simp only [if_neg ab, len]
      refine ⟨by split <;> omega, by split <;> omega, by split <;> omega, fun hx => ?_, fun c hc => ?_, fun hx => ?_, fun c hc => ?_, a8, fun g' hg' => ?_⟩
      · by_cases ag : a = g
        · rw [if_pos ag] at hx; cases hx
        · rw [if_neg ag] at hx
          have := a4 hx
          have kj : k ≠ j := by
            rintro rfl
            rw [hg] at hk
            cases hk
            exact ag rfl
          split <;> omega
      · by_cases ag : a = g
        · rw [if_pos ag] at hc
          cases hc
          subst ag
          have kj : k = j := nd_ix nd hk hg
          subst kj
          simp only [if_pos rfl, if_true]
          refine ⟨(mem b).mpr (Or.inl rfl), ?_, by omega, trivial⟩
          rw [if_neg (by omega)]
          omega
        · rw [if_neg ag] at hc
          obtain ⟨c1, c2, c3, c4⟩ := a5 c hc
          have cb : c ≠ b := by rintro rfl; exact hb c1
          obtain ⟨ic, hic⟩ := mem_ix c1
          obtain ⟨d1, d2, d3, -⟩ := hN ic c hic
          have kj : k ≠ j := by
            rintro rfl
            rw [hg] at hk
            cases hk
            exact ag rfl
          simp only [if_neg cb]
          refine ⟨(mem c).mpr (Or.inr c1), ?_, ?_, c4⟩
          · rw [c2]
          · rw [c3]
            split <;> omega
      · have := a6 hx
        split <;> omega
      · obtain ⟨c1, c2, c3, c4⟩ := a7 c hc
        have cb : c ≠ b := by rintro rfl; exact hb c1
        simp only [if_neg cb]
        refine ⟨(mem c).mpr (Or.inr c1), ?_, ?_, c4⟩
        · rw [c2]
          split <;> omega
        · rw [c3]
      · obtain ⟨q1, q2⟩ := a9 g' hg'
        have gb' : g' ≠ b := by rintro rfl; exact hb q1
        refine ⟨(mem g').mpr (Or.inr q1), ?_⟩
        rw [if_neg gb', if_neg gb']
        rcases q2 with q2 | q2
        · refine Or.inl ?_
          rw [if_neg (fun z => by rw [z, hL] at q2; cases q2)]
          exact q2
        · exact Or.inr q2
  · intro a ha
    obtain ⟨t1, t2, t3, t4⟩ := hR a ha
    have ab : a ≠ b := by rintro rfl; exact hb t1
    simp only [if_neg ab, len]
    refine ⟨(mem a).mpr (Or.inr t1), ?_, ?_, t4⟩
    · rw [t2, if_neg (by omega)]
    · rw [t3, if_pos hj]
  · intro ha
    rw [hE ha] at hj
    simp at hj
theorem tI.insR {ids : List Nat} {L R P : Nat → Option Nat} {lo hi : Nat → Nat} {root : Option Nat} (h : tI ids L R P lo hi root) {g j b : Nat} (hg : ids[j]? = some g) (hL : R g = none) (hb : b ∉ ids) :
    ∃ lo' hi', tI (ids.take (j + 1) ++ b :: ids.drop (j + 1)) (fun q => if q = b then none else L q) (fun q => if q = b then none else if q = g then some b else R q) (fun q => if q = b then some g else P q) lo' hi' root := by
  have hj := (List.getElem?_eq_some_iff.mp hg).1
  obtain ⟨lo', hi', h'⟩ := h.mirror.insL (g := g) (j := ids.length - 1 - j) (b := b) (by rw [List.getElem?_reverse (by omega), show ids.length - 1 - (ids.length - 1 - j) = j by omega]; exact hg) hL (by simpa using hb)
  have := h'.mirror
  have e : (ids.reverse.take (ids.length - 1 - j) ++ b :: ids.reverse.drop (ids.length - 1 - j)).reverse = ids.take (j + 1) ++ b :: ids.drop (j + 1) := by
    rw [List.reverse_append, List.reverse_cons, List.take_reverse, List.drop_reverse, List.reverse_reverse, List.reverse_reverse]
    rw [show ids.length - (ids.length - 1 - j) = j + 1 by omega]
    simp
  rw [e] at this
  exact ⟨_, _, this⟩
/-- the first node -/
theorem tI.one (b : Nat) : tI [b] (fun _ => none) (fun _ => none) (fun _ => none) (fun _ => 0) (fun _ => 1) (some b) := by
  refine ⟨by simp, ?_, ?_, ?_⟩
  · intro i a ha
    have hi := (List.getElem?_eq_some_iff.mp ha).1
    have h0 : i = 0 := by simp at hi; omega
    subst h0
    simp at ha
    subst ha
    exact ⟨by simp, by simp, by simp, by simp, by simp, by simp, by simp, by simp, by simp⟩
  · intro a ha
    cases ha
    exact ⟨by simp, rfl, rfl, rfl⟩
  · intro h
    cases h
