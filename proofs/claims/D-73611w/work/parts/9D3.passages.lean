set_option maxRecDepth 100000
/-! the plain law: passages -/
/-- a local token's number among all; none stays none -/
def gI (g : Nat → Nat → Nat) (i : Nat) (x : Int) : Int := if x = -1 then -1 else (g i x.toNat : Nat)
theorem gI_no (g : Nat → Nat → Nat) (i : Nat) : gI g i (-1) = -1 := rfl
theorem gI_n {g : Nat → Nat → Nat} {i j : Nat} : gI g i (j : Int) = (g i j : Nat) := by
  unfold gI
  rw [if_neg (by omega), Int.toNat_natCast]
theorem gI_m1 {g : Nat → Nat → Nat} {i : Nat} {x : Int} : gI g i x = -1 ↔ x = -1 := by
  unfold gI
  split
  · rename_i e; simp [e]
  · rename_i e
    constructor
    · intro q; omega
    · intro q; exact absurd q e
section
variable {A : Nat → Int} {Ds : List dc} {g : Nat → Nat → Nat} {i v p j t : Nat} {D : dc}
theorem rl_ok.then1 (h : rl_ok A Ds g) (hi : Ds[i]? = some D) (hv : v < D.1.length) (ht : t < D.2.1.length) : a_then A i v (g i t) = gI g i (dc_then D v t) ∧ (dc_then D v t = -1 ∨ (0 ≤ dc_then D v t ∧ dc_then D v t < D.2.1.length)) := by
  obtain ⟨⟨g1, g2⟩, g3, g4, g5, g6, g7, g8, g9, g10⟩ := h.dat hi
  refine ⟨?_, dc_then_r g10 hv t⟩
  have rv := h.r0 hi hv
  obtain ⟨r1, r2, r3, r4, r5, r6, r7⟩ := h.rw1 hi rv
  unfold a_then dc_then
  rw [Int.toNat_natCast, h.place hi rv ht, (h.len hi hv).1]
  by_cases q : dc_place (dc_row D v) t = -1
  · rw [if_pos q, if_pos q]; rfl
  · rw [if_neg q, if_neg q]
    have hp := (dc_place_r (dc_row D v) t).resolve_left q
    split
    · rename_i lt
      have hlt : (dc_place (dc_row D v) t + 1).toNat < (dc_row D v).length := by rw [r5] at lt; omega
      obtain ⟨k, hk⟩ := dc_get hlt
      rw [dc_getD hk, gI_n]
      have := (h.tokAt hi rv hk).1
      rw [show (((dc_place (dc_row D v) t + 1).toNat : Nat) : Int) = dc_place (dc_row D v) t + 1 by omega] at this
      exact this
    · rfl
theorem rl_ok.gInj (h : rl_ok A Ds g) (hi : Ds[i]? = some D) {x y : Int} (hx : x = -1 ∨ (0 ≤ x ∧ x < D.2.1.length)) (hy : y = -1 ∨ (0 ≤ y ∧ y < D.2.1.length)) : (gI g i x = gI g i y) = (x = y) := by
  rw [eq_iff_iff]
  refine ⟨fun e => ?_, fun e => by rw [e]⟩
  rcases hx with rfl | hx
  · have := gI_m1.mp e.symm
    exact this.symm
  · rcases hy with rfl | hy
    · exact gI_m1.mp e
    · unfold gI at e
      rw [if_neg (by omega), if_neg (by omega)] at e
      have := h.inj hi (j := x.toNat) (k := y.toNat) (by omega) (by omega) (by omega)
      omega
theorem rl_ok.bl (h : rl_ok A Ds g) (hi : Ds[i]? = some D) (ht : t < D.2.1.length) (s : Int) : ∀ (n v : Nat) (b : Int), v + n ≤ D.1.length → (b = -1 ∨ (0 ≤ b ∧ b < D.2.1.length)) → a_bl A i (g i t) s n v (gI g i b) = gI g i (dc_bl D t s n v b) ∧ (dc_bl D t s n v b = -1 ∨ (0 ≤ dc_bl D t s n v b ∧ dc_bl D t s n v b < D.2.1.length)) := by
  intro n
  induction n with
  | zero =>
    intro v b _ hb
    show (if gI g i b ≠ -1 ∧ a_where A (gI g i b) = s then gI g i b else -1) = gI g i (if b ≠ -1 ∧ dc_set D.1 b.toNat = s then b else -1) ∧ _
    show _ ∧ ((if b ≠ -1 ∧ dc_set D.1 b.toNat = s then b else -1) = -1 ∨ (0 ≤ (if b ≠ -1 ∧ dc_set D.1 b.toNat = s then b else -1) ∧ (if b ≠ -1 ∧ dc_set D.1 b.toNat = s then b else -1) < D.2.1.length))
    by_cases q : b = -1
    · rw [if_neg (fun z => z.1 (gI_m1.mpr q)), if_neg (fun z => z.1 q)]
      exact ⟨rfl, Or.inl rfl⟩
    · have hb := hb.resolve_left q
      have e : gI g i b = (g i b.toNat : Nat) := by unfold gI; rw [if_neg q]
      rw [e, h.whereAt hi (j := b.toNat) (by omega)]
      by_cases z : dc_set D.1 b.toNat = s
      · rw [if_pos ⟨by omega, z⟩, if_pos ⟨q, z⟩]
        exact ⟨e.symm, Or.inr hb⟩
      · rw [if_neg (fun y => z y.2), if_neg (fun y => z y.2)]
        exact ⟨rfl, Or.inl rfl⟩
  | succ n ih =>
    intro v b hv hb
    obtain ⟨e1, e2⟩ := h.then1 hi (v := v) (by omega) ht
    show (if s_has s v = true then (if a_then A i v (g i t) = -1 ∨ (gI g i b ≠ -1 ∧ a_then A i v (g i t) ≠ gI g i b) then -1 else a_bl A i (g i t) s n (v + 1) (a_then A i v (g i t))) else a_bl A i (g i t) s n (v + 1) (gI g i b)) = _ ∧ _
    show _ = gI g i (if s_has s v = true then (if dc_then D v t = -1 ∨ (b ≠ -1 ∧ dc_then D v t ≠ b) then -1 else dc_bl D t s n (v + 1) (dc_then D v t)) else dc_bl D t s n (v + 1) b) ∧ _
    rw [e1]
    have c : (gI g i (dc_then D v t) = -1 ∨ (gI g i b ≠ -1 ∧ gI g i (dc_then D v t) ≠ gI g i b)) = (dc_then D v t = -1 ∨ (b ≠ -1 ∧ dc_then D v t ≠ b)) := by
      simp only [ne_eq, gI_m1, h.gInj hi e2 hb]
    show _ ∧ ((if s_has s v = true then (if dc_then D v t = -1 ∨ (b ≠ -1 ∧ dc_then D v t ≠ b) then -1 else dc_bl D t s n (v + 1) (dc_then D v t)) else dc_bl D t s n (v + 1) b) = -1 ∨ _)
    simp only [c]
    have bl_s : dc_bl D t s (n + 1) v b = if s_has s v = true then (if dc_then D v t = -1 ∨ (b ≠ -1 ∧ dc_then D v t ≠ b) then -1 else dc_bl D t s n (v + 1) (dc_then D v t)) else dc_bl D t s n (v + 1) b := rfl
    rw [bl_s]
    by_cases q : s_has s v = true
    · rw [if_pos q, if_pos q]
      by_cases z : dc_then D v t = -1 ∨ (b ≠ -1 ∧ dc_then D v t ≠ b)
      · rw [if_pos z, if_pos z]
        exact ⟨rfl, Or.inl rfl⟩
      · rw [if_neg z, if_neg z]
        exact ih (v + 1) _ (by omega) e2
    · rw [if_neg q, if_neg q]
      exact ih (v + 1) b (by omega) hb
theorem rl_ok.behind (h : rl_ok A Ds g) (hi : Ds[i]? = some D) (ht : t < D.2.1.length) : a_behind A i (g i t) (dc_set D.1 t) = gI g i (dc_behind D t) ∧ (dc_behind D t = -1 ∨ (0 ≤ dc_behind D t ∧ dc_behind D t < D.2.1.length)) := by
  obtain ⟨⟨g1, g2⟩, g3, g4, g5, g6, g7, g8, g9, g10⟩ := h.dat hi
  have := h.bl hi ht (dc_set D.1 t) D.1.length 0 (-1) (by omega) (Or.inl rfl)
  unfold a_behind dc_behind
  rw [g6, Int.toNat_natCast, Int.toNat_natCast]
  exact this
theorem rl_ok.bspec (h : rl_ok A Ds g) (hi : Ds[i]? = some D) (ht : t < D.2.1.length) {u : Nat} (hu : dc_behind D t = u) : u < D.2.1.length ∧ dc_set D.1 u = dc_set D.1 t ∧ ∀ w : Nat, w < D.1.length → t ∈ dc_row D w → ∃ q : Nat, (dc_row D w)[q]? = some t ∧ (dc_row D w)[q + 1]? = some u := by
  obtain ⟨⟨g1, g2⟩, g3, g4, g5, g6, g7, g8, g9, g10⟩ := h.dat hi
  obtain ⟨e1, e2⟩ := h.behind hi ht
  rw [hu] at e1 e2
  have hul : u < D.2.1.length := by omega
  rw [gI_n] at e1
  unfold a_behind at e1
  obtain ⟨s1, -, s3⟩ := a_bl_spec _ 0 (-1) _ e1 (by omega)
  rw [h.whereAt hi hul] at s1
  refine ⟨hul, s1, fun w hw hm => ?_⟩
  have hs : s_has (dc_set D.1 t) w = true := by rw [h.setHas hi hw]; exact decide_eq_true hm
  have := s3 w (by omega) (by rw [g6, Int.toNat_natCast]; omega) hs
  obtain ⟨f1, f2⟩ := h.then1 hi hw ht
  rw [this] at f1
  have f3 : dc_then D w t = u := by
    rw [← gI_n, h.gInj hi e2 f2] at f1
    exact f1.symm
  obtain ⟨r1, r2, r3, r4, r5, r6, r7⟩ := h.rw1 hi (h.r0 hi hw)
  obtain ⟨q, hq⟩ := List.getElem?_of_mem hm
  refine ⟨q, hq, ?_⟩
  unfold dc_then at f3
  rw [Int.toNat_natCast, dc_place_at r7 hq, if_neg (by omega)] at f3
  split at f3
  · rename_i lt
    have : ((q : Int) + 1).toNat = q + 1 := by omega
    rw [this] at f3
    obtain ⟨k, hk⟩ := dc_get (l := dc_row D w) (i := q + 1) (by omega)
    rw [dc_getD hk] at f3
    rw [hk]
    congr 1
    omega
  · omega
theorem rl_ok.somewhere (h : rl_ok A Ds g) (hi : Ds[i]? = some D) (ht : t < D.2.1.length) : ∃ w, w < D.1.length ∧ t ∈ dc_row D w := by
  obtain ⟨⟨g1, g2⟩, g3, g4, g5, g6, g7, g8, g9, g10⟩ := h.dat hi
  obtain ⟨s, hs⟩ := dc_get ht
  obtain ⟨f1, f2, f3, f4, f5, f6⟩ := h.tok hi hs
  obtain ⟨o1, o2, w, w1, w2, wm⟩ := h.2.1.2.2.2.1 (g i t) (by omega) f3
  obtain ⟨p, p1, p2, e⟩ := a_row_mem.mp wm
  rw [f2] at w2 p2 e
  rw [g6] at w2
  have ew : ((w.toNat : Nat) : Int) = w := by omega
  have ep : ((p.toNat : Nat) : Int) = p := by omega
  have hw : w.toNat < D.1.length := by omega
  rw [← ew] at p2 e
  rw [(h.len hi hw).1] at p2
  obtain ⟨j, hj⟩ := dc_get (l := dc_row D w.toNat) (i := p.toNat) (by unfold dc_len at p2; omega)
  obtain ⟨e1, e2, e3⟩ := h.tokAt hi (h.r0 hi hw) hj
  rw [ep, e] at e1
  have : t = j := h.inj hi ht e2 (by omega)
  exact ⟨w.toNat, hw, by rw [this]; exact List.mem_of_getElem? hj⟩
theorem rl_ok.binj (h : rl_ok A Ds g) (hi : Ds[i]? = some D) {t t' u : Nat} (ht : t < D.2.1.length) (ht' : t' < D.2.1.length) (hu : dc_behind D t = u) (hu' : dc_behind D t' = u) : t = t' := by
  obtain ⟨a1, a2, a3⟩ := h.bspec hi ht hu
  obtain ⟨b1, b2, b3⟩ := h.bspec hi ht' hu'
  obtain ⟨w, hw, hm⟩ := h.somewhere hi ht
  have hm' : t' ∈ dc_row D w := by
    have e1 := h.setHas hi hw t
    have e2 := h.setHas hi hw t'
    rw [← b2, a2, e1] at e2
    exact (decide_eq_decide.mp e2).mp hm
  obtain ⟨q, q1, q2⟩ := a3 w hw hm
  obtain ⟨q', q1', q2'⟩ := b3 w hw hm'
  obtain ⟨r1, r2, r3, r4, r5, r6, r7⟩ := h.rw1 hi (h.r0 hi hw)
  have : q + 1 = q' + 1 := by
    obtain ⟨x1, x2⟩ := List.getElem?_eq_some_iff.mp q2
    obtain ⟨y1, y2⟩ := List.getElem?_eq_some_iff.mp q2'
    exact (List.getElem_inj r7).mp (x2.trans y2.symm)
  have : q = q' := by omega
  subst this
  rw [q1] at q1'
  exact Option.some.inj q1'
/-- chains are short: a token's place in some version bounds them -/
theorem rl_ok.short (h : rl_ok A Ds g) (hi : Ds[i]? = some D) {w : Nat} (hw : w < D.1.length) : ∀ (f : Nat) (t : Int), (t = -1 ∨ (0 ≤ t ∧ t < D.2.1.length ∧ ∃ q : Nat, (dc_row D w)[q]? = some t.toNat ∧ 20 ≤ q + f)) → ∀ e, dc_chain D (f + e) t = dc_chain D f t ∧ dc_chain D f t ≤ f := by
  obtain ⟨r1, r2, r3, r4, r5, r6, r7⟩ := h.rw1 hi (h.r0 hi hw)
  have none : ∀ f, dc_chain D f (-1) = 0 := fun f => by cases f <;> rfl
  intro f
  induction f with
  | zero =>
    intro t ht e
    rcases ht with rfl | ⟨t1, t2, q, q1, q2⟩
    · rw [none, none]; exact ⟨rfl, Int.le_refl _⟩
    · have := (List.getElem?_eq_some_iff.mp q1).1
      omega
  | succ f ih =>
    intro t ht e
    rcases ht with rfl | ⟨t1, t2, q, q1, q2⟩
    · rw [none, none]; exact ⟨rfl, by omega⟩
    · rw [show f + 1 + e = (f + e) + 1 by omega]
      show (if t = -1 then 0 else 1 + dc_chain D (f + e) (dc_behind D t)) = (if t = -1 then 0 else 1 + dc_chain D f (dc_behind D t)) ∧ (if t = -1 then 0 else 1 + dc_chain D f (dc_behind D t)) ≤ _
      rw [if_neg (by omega), if_neg (by omega)]
      have et : ((t.toNat : Nat) : Int) = t := by omega
      have hb := (h.behind hi (t := t.toNat) (by omega)).2
      rw [et] at hb
      obtain ⟨i1, i2⟩ := ih (dc_behind D t) (by
        rcases hb with hb | hb
        · exact Or.inl hb
        · refine Or.inr ⟨hb.1, hb.2, ?_⟩
          obtain ⟨b1, b2, b3⟩ := h.bspec hi (t := t.toNat) (by omega) (u := (dc_behind D t).toNat) (by rw [et]; omega)
          obtain ⟨q', y1, y2⟩ := b3 w hw (List.mem_of_getElem? q1)
          have eq : q = q' := by
            obtain ⟨x1, x2⟩ := List.getElem?_eq_some_iff.mp q1
            obtain ⟨z1, z2⟩ := List.getElem?_eq_some_iff.mp y1
            exact (List.getElem_inj r7).mp (x2.trans z2.symm)
          subst eq
          exact ⟨q + 1, y2, by omega⟩) e
      rw [i1]
      exact ⟨rfl, by omega⟩
theorem rl_ok.chain21 (h : rl_ok A Ds g) (hi : Ds[i]? = some D) (ht : t < D.2.1.length) : (∀ e, dc_chain D (20 + e) t = dc_chain D 20 t) ∧ dc_chain D 20 t ≤ 20 := by
  obtain ⟨w, hw, hm⟩ := h.somewhere hi ht
  obtain ⟨q, hq⟩ := List.getElem?_of_mem hm
  have := h.short hi hw 20 t (Or.inr ⟨by omega, by omega, q, by rw [Int.toNat_natCast]; exact hq, by omega⟩)
  exact ⟨fun e => (this e).1, (this 0).2⟩
theorem rl_ok.ends (h : rl_ok A Ds g) (hi : Ds[i]? = some D) : dc_ends D := by
  intro t ht
  rcases (h.behind hi ht).2 with q | q
  · rw [q]
    show (if (-1 : Int) = -1 then (0 : Int) else _) ≤ 1000
    rw [if_pos rfl]; omega
  · have e : (((dc_behind D t).toNat : Nat) : Int) = dc_behind D t := by omega
    obtain ⟨a1, a2⟩ := h.chain21 hi (t := (dc_behind D t).toNat) (by omega)
    rw [e] at a1 a2
    have := a1 981
    rw [this]
    omega
theorem rl_ok.da (h : rl_ok A Ds g) : da_ok Ds := by
  refine ⟨h.2.2.1.1, fun D hD => ?_⟩
  obtain ⟨a1, a2, a3⟩ := h.2.2.1.2 D hD
  obtain ⟨i, hi⟩ := List.getElem?_of_mem hD
  exact ⟨a1, a2, a3, h.ends hi⟩
theorem rl_ok.chain (h : rl_ok A Ds g) (hi : Ds[i]? = some D) (s : Int) : ∀ (f : Nat) (t : Int), (t = -1 ∨ (0 ≤ t ∧ t < D.2.1.length ∧ dc_set D.1 t.toNat = s)) → a_chain A i s f (gI g i t) = dc_chain D f t := by
  intro f
  induction f with
  | zero => intro t _; rfl
  | succ f ih =>
    intro t ht
    show (if gI g i t = -1 then 0 else 1 + a_chain A i s f (a_behind A i (gI g i t) s)) = (if t = -1 then 0 else 1 + dc_chain D f (dc_behind D t))
    rcases ht with rfl | ⟨t1, t2, t3⟩
    · rw [gI_no, if_pos rfl, if_pos rfl]
    · rw [if_neg (by rw [gI_m1]; omega), if_neg (by omega)]
      have et : ((t.toNat : Nat) : Int) = t := by omega
      obtain ⟨b1, b2⟩ := h.behind hi (t := t.toNat) (by omega)
      rw [t3, et, ← gI_n, et] at b1
      rw [et] at b2
      rw [b1, ih (dc_behind D t) (b2.imp id (fun b => ⟨b.1, b.2, ?_⟩))]
      have := (h.bspec hi (t := t.toNat) (by omega) (u := (dc_behind D t).toNat) (by rw [et]; omega)).2.1
      rw [this, t3]
theorem rl_ok.begins (h : rl_ok A Ds g) (hi : Ds[i]? = some D) (ht : t < D.2.1.length) : a_begins A (A 5) i (g i t) = (List.range D.2.1.length).all (fun k => !decide (dc_behind D k = t)) := by
  obtain ⟨s, hs⟩ := dc_get ht
  obtain ⟨f1, f2, f3, f4, f5, f6⟩ := h.tok hi hs
  obtain ⟨w, hw, hm⟩ := h.somewhere hi ht
  obtain ⟨n1, n2⟩ := h.n5
  have hne : dc_set D.1 t ≠ 0 := by
    intro e
    have e1 := h.setHas hi hw t
    obtain ⟨⟨g1, g2⟩, g3, g4, g5, g6, g7, g8, g9, g10⟩ := h.dat hi
    rw [e, s_has_0 (by omega), decide_eq_true hm] at e1
    cases e1
  unfold a_begins
  rw [f2, decide_eq_true rfl, h.whereAt hi ht, decide_eq_false hne]
  show (true && (!false && !a_hasAhead A (A 5) i (g i t) (dc_set D.1 t))) = _
  simp only [Bool.true_and, Bool.not_false]
  have key : a_hasAhead A (A 5) i (g i t) (dc_set D.1 t) = (List.range D.2.1.length).any (fun k => decide (dc_behind D k = t)) := by
    rw [Bool.eq_iff_iff]
    unfold a_hasAhead
    rw [List.any_eq_true, List.any_eq_true]
    constructor
    · rintro ⟨u, hu, e⟩
      have hu := List.mem_range.mp hu
      simp only [Bool.and_eq_true, decide_eq_true_eq] at e
      obtain ⟨e1, e2, e3⟩ := e
      obtain ⟨i', D', k, hi', hk, rfl⟩ := h.1.2.2 u (by omega)
      obtain ⟨s', hs'⟩ := dc_get hk
      have q := (h.tok hi' hs').2.1
      have : i' = i := by have : (i' : Int) = i := q.symm.trans e1; omega
      subst this
      rw [hi] at hi'
      cases hi'
      rw [h.whereAt hi hk] at e2
      obtain ⟨b1, b2⟩ := h.behind hi hk
      rw [e2, e3, ← gI_n, h.gInj hi (Or.inr ⟨by omega, by omega⟩) b2] at b1
      exact ⟨k, List.mem_range.mpr hk, decide_eq_true b1.symm⟩
    · rintro ⟨k, hk, e⟩
      have hk := List.mem_range.mp hk
      have e := of_decide_eq_true e
      obtain ⟨s', hs'⟩ := dc_get hk
      obtain ⟨q1, q2, q3, -⟩ := h.tok hi hs'
      obtain ⟨b1, b2⟩ := h.behind hi hk
      obtain ⟨c1, c2, c3⟩ := h.bspec hi hk e
      refine ⟨g i k, List.mem_range.mpr (by omega), ?_⟩
      simp only [Bool.and_eq_true, decide_eq_true_eq]
      refine ⟨q2, by rw [h.whereAt hi hk]; exact c2.symm, ?_⟩
      rw [c2, b1, e, gI_n]
  rw [key]
  rw [Bool.eq_iff_iff, Bool.not_eq_true', List.any_eq_false, List.all_eq_true]
  simp
theorem rl_ok.passN (h : rl_ok A Ds g) (hi : Ds[i]? = some D) : a_passN A (A 5) i = (dc_pas D).1 := by
  have e := h.enum (F := fun t (a : Int) => if a_begins A (A 5) i (t : Nat) = true then a + 1 else a) (x := (0 : Int)) hi
  have e1 : a_passN A (A 5) i = upto (A 5).toNat (fun t a => if a_whose A (t : Nat) = i then (if a_begins A (A 5) i (t : Nat) = true then a + 1 else a) else a) 0 := by
    refine upto_cg _ (fun t a _ => ?_)
    by_cases q : a_whose A (t : Nat) = i
    · rw [if_pos q]
    · rw [if_neg q]
      have : a_begins A (A 5) i (t : Nat) = false := by unfold a_begins; rw [decide_eq_false q]; rfl
      rw [this]; rfl
  rw [e1, e]
  have pas1 : ∀ n, (upto n (fun t (b : Int × Int) => (b.1 - (if 1 < 1 + dc_chain D 1001 (dc_behind D t) then 1 else 0), max b.2 (1 + dc_chain D 1001 (dc_behind D t)))) ((D.2.1.length : Int), 0)).1 = D.2.1.length - sm n (fun t => if 1 < 1 + dc_chain D 1001 (dc_behind D t) then 1 else 0) := by
    intro n
    induction n with
    | zero => show (D.2.1.length : Int) = D.2.1.length - 0; omega
    | succ n ih => rw [upto_s, sm_s]; show _ - _ = _; rw [ih]; omega
  unfold dc_pas
  rw [pas1]
  have linkd : ∀ t, t < D.2.1.length → (if 1 < 1 + dc_chain D 1001 (dc_behind D t) then (1 : Int) else 0) = sm D.2.1.length (fun u => if dc_behind D t = (u : Nat) then 1 else 0) := by
    intro t ht
    rcases (h.behind hi ht).2 with q | q
    · have z : dc_chain D 1001 (dc_behind D t) = 0 := by rw [q]; rfl
      rw [if_neg (by omega)]
      exact (sm_z _ (fun u _ => if_neg (by omega))).symm
    · have z : 1 ≤ dc_chain D 1001 (dc_behind D t) := by
        show 1 ≤ (if dc_behind D t = -1 then 0 else 1 + dc_chain D 1000 (dc_behind D (dc_behind D t)))
        rw [if_neg (by omega)]
        have := (dc_chain_r D 1000 (dc_behind D (dc_behind D t))).1
        omega
      rw [if_pos (by omega), sm_one (f := fun u => if dc_behind D t = (u : Nat) then (1 : Int) else 0) (j := (dc_behind D t).toNat) (by omega) (fun k _ hk => if_neg (by omega)), if_pos (by omega)]
  rw [sm_cg _ linkd, sm_swap]
  have st : upto D.2.1.length (fun j (a : Int) => if a_begins A (A 5) i (g i j : Nat) = true then a + 1 else a) 0 = sm D.2.1.length (fun j => if a_begins A (A 5) i (g i j : Nat) = true then 1 else 0) := by
    have := upto_cond (fun j => a_begins A (A 5) i (g i j : Nat) = true) (fun _ => 1) D.2.1.length
    exact this
  rw [st]
  have one : (D.2.1.length : Int) = sm D.2.1.length (fun _ => 1) := by rw [sm_c]; omega
  rw [one, ← sm_sub]
  refine sm_cg _ (fun u hu => ?_)
  rw [h.begins hi hu]
  by_cases ex : ∃ k, k < D.2.1.length ∧ dc_behind D k = (u : Nat)
  · obtain ⟨k, hk, ek⟩ := ex
    rw [sm_one (f := fun k => if dc_behind D k = (u : Nat) then (1 : Int) else 0) hk (fun k' hk' hne => if_neg (fun q => hne (h.binj hi hk' hk q ek))), if_pos ek, all_false hk (by rw [decide_eq_true ek]; rfl)]
    rfl
  · rw [sm_z (f := fun k => if dc_behind D k = (u : Nat) then (1 : Int) else 0) _ (fun k hk => if_neg (fun q => ex ⟨k, hk, q⟩)), all_true (fun k hk => by rw [decide_eq_false (fun q => ex ⟨k, hk, q⟩)]; rfl)]
    rfl
theorem mx_le {P : Nat → Prop} [∀ k, Decidable (P k)] {f : Nat → Int} {M : Int} (n : Nat) (h0 : 0 ≤ M) (h : ∀ k, k < n → P k → f k ≤ M) : upto n (fun k c => if P k then max c (f k) else c) 0 ≤ M := by
  refine upto_ind (Q := fun c => c ≤ M) h0 n (fun k c hk hc => ?_)
  split
  · rename_i q
    have := h k hk q
    omega
  · exact hc
theorem mx_ge {P : Nat → Prop} [∀ k, Decidable (P k)] {f : Nat → Int} : ∀ (n : Nat) {k : Nat}, k < n → P k → f k ≤ upto n (fun k c => if P k then max c (f k) else c) 0 := by
  intro n
  induction n with
  | zero => intro k hk; omega
  | succ n ih =>
    intro k hk hP
    rw [upto_s]
    by_cases e : k = n
    · subst e
      rw [if_pos hP]; omega
    · have := ih (by omega) hP
      split <;> omega
theorem rl_ok.passL (h : rl_ok A Ds g) (hi : Ds[i]? = some D) : a_passL A (A 5) i = (dc_pas D).2 := by
  have e := h.enum (F := fun t (c : Int) => if a_begins A (A 5) i (t : Nat) = true then max c (a_chain A i (a_where A (t : Nat)) 21 (t : Nat)) else c) (x := (0 : Int)) hi
  have e1 : a_passL A (A 5) i = upto (A 5).toNat (fun t c => if a_whose A (t : Nat) = i then (if a_begins A (A 5) i (t : Nat) = true then max c (a_chain A i (a_where A (t : Nat)) 21 (t : Nat)) else c) else c) 0 := by
    refine upto_cg _ (fun t a _ => ?_)
    by_cases q : a_whose A (t : Nat) = i
    · rw [if_pos q]
    · rw [if_neg q]
      have : a_begins A (A 5) i (t : Nat) = false := by unfold a_begins; rw [decide_eq_false q]; rfl
      rw [this]; rfl
  rw [e1, e]
  have len : ∀ t, t < D.2.1.length → 1 + dc_chain D 1001 (dc_behind D t) = dc_chain D 21 t := by
    intro t ht
    have c1 := (h.chain21 hi ht).1
    have : dc_chain D 1002 t = 1 + dc_chain D 1001 (dc_behind D t) := by
      show (if (t : Int) = -1 then 0 else _) = _
      rw [if_neg (by omega)]
    rw [← this, c1 982, c1 1]
  have e2 : upto D.2.1.length (fun j (c : Int) => if a_begins A (A 5) i (g i j : Nat) = true then max c (a_chain A i (a_where A (g i j : Nat)) 21 (g i j : Nat)) else c) 0 = upto D.2.1.length (fun j (c : Int) => if ((List.range D.2.1.length).all (fun k => !decide (dc_behind D k = j))) = true then max c (dc_chain D 21 j) else c) 0 := by
    refine upto_cg _ (fun j c hj => ?_)
    rw [h.begins hi hj, h.whereAt hi hj, ← gI_n, h.chain hi _ 21 j (Or.inr ⟨by omega, by omega, by rw [Int.toNat_natCast]⟩)]
  rw [e2]
  have pas2 : ∀ n, n ≤ D.2.1.length → (upto n (fun t (b : Int × Int) => (b.1 - (if 1 < 1 + dc_chain D 1001 (dc_behind D t) then 1 else 0), max b.2 (1 + dc_chain D 1001 (dc_behind D t)))) ((D.2.1.length : Int), 0)).2 = upto n (fun t (c : Int) => if True then max c (dc_chain D 21 t) else c) 0 := by
    intro n hn
    induction n with
    | zero => rfl
    | succ n ih =>
      rw [upto_s, upto_s, if_pos trivial, ← ih (by omega), ← len n (by omega)]
  unfold dc_pas
  rw [pas2 _ (Nat.le_refl _)]
  -- every chain is a part of one that begins
  have up : ∀ (f : Nat) (t : Nat), t < D.2.1.length → dc_chain D 21 t + f ≥ 21 → ∃ u, u < D.2.1.length ∧ ((List.range D.2.1.length).all (fun k => !decide (dc_behind D k = u))) = true ∧ dc_chain D 21 t ≤ dc_chain D 21 u := by
    intro f
    induction f with
    | zero =>
      intro t ht hf
      have c1 := h.chain21 hi ht
      have c2 : dc_chain D 21 t = dc_chain D 20 t := c1.1 1
      have := c1.2
      omega
    | succ f ih =>
      intro t ht hf
      by_cases ex : ∃ k, k < D.2.1.length ∧ dc_behind D k = (t : Nat)
      · obtain ⟨k, hk, ek⟩ := ex
        have l1 := len k hk
        rw [ek] at l1
        have c1 := (h.chain21 hi ht).1
        have c2 : dc_chain D 21 t = dc_chain D 20 t := c1 1
        have c3 : dc_chain D 1001 t = dc_chain D 20 t := c1 981
        obtain ⟨u, u1, u2, u3⟩ := ih k hk (by omega)
        exact ⟨u, u1, u2, by omega⟩
      · exact ⟨t, ht, all_true (fun k hk => by rw [decide_eq_false (fun q => ex ⟨k, hk, q⟩)]; rfl), Int.le_refl _⟩
  have le1 : upto D.2.1.length (fun j (c : Int) => if ((List.range D.2.1.length).all (fun k => !decide (dc_behind D k = j))) = true then max c (dc_chain D 21 j) else c) 0 ≤ upto D.2.1.length (fun t (c : Int) => if True then max c (dc_chain D 21 t) else c) 0 := by
    refine mx_le (P := fun j => ((List.range D.2.1.length).all (fun k => !decide (dc_behind D k = j))) = true) (f := fun j => dc_chain D 21 j) _ ?_ (fun k hk _ => mx_ge (P := fun _ => True) (f := fun j => dc_chain D 21 j) _ hk trivial)
    exact upto_ind (Q := fun c => 0 ≤ c) (Int.le_refl _) _ (fun k c _ hc => by rw [if_pos trivial]; omega)
  have le2 : upto D.2.1.length (fun t (c : Int) => if True then max c (dc_chain D 21 t) else c) 0 ≤ upto D.2.1.length (fun j (c : Int) => if ((List.range D.2.1.length).all (fun k => !decide (dc_behind D k = j))) = true then max c (dc_chain D 21 j) else c) 0 := by
    refine mx_le (P := fun _ => True) (f := fun j => dc_chain D 21 j) _ ?_ (fun k hk _ => ?_)
    · exact upto_ind (Q := fun c => 0 ≤ c) (Int.le_refl _) _ (fun k c _ hc => by split <;> omega)
    · obtain ⟨u, u1, u2, u3⟩ := up 21 k hk (by have := (dc_chain_r D 21 k).1; omega)
      exact Int.le_trans u3 (mx_ge (P := fun j => ((List.range D.2.1.length).all (fun k => !decide (dc_behind D k = j))) = true) (f := fun j => dc_chain D 21 j) _ u1 u2)
  omega
end
