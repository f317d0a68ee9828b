set_option maxRecDepth 100000
/-! the component: TreeMap: links set, rotations, what is mended behind an insertion -/
/-- an entry: node, key, the key's value, what is kept -/
abbrev tE : Type := Nat × Nat × Int × Option Nat
/-- left, right, up, colour, root -/
abbrev tS : Type := (Nat → Option Nat) × (Nat → Option Nat) × (Nat → Option Nat) × (Nat → Bool) × Option Nat
abbrev tV : Type := Value × Value × Value × Value × Value × Value × Value
def t_up {α : Type} (f : Nat → α) (a : Nat) (x : α) : Nat → α := fun q => if q = a then x else f q
def t_ids (xs : List tE) : List Nat := xs.map (fun e => e.1)
def t_fs (e : tE) (S : tS) : List Value := [va_rf (some e.2.1), va_rf e.2.2.2, va_rf (S.1 e.1), va_rf (S.2.1 e.1), va_rf (S.2.2.1 e.1), .int (bI (S.2.2.2.1 e.1))]
def t_os (v : tV) (S : tS) : List Value := [v.1, v.2.1, va_rf none, va_rf S.2.2.2.2, v.2.2.1, v.2.2.2.1, v.2.2.2.2.1, v.2.2.2.2.2.1, v.2.2.2.2.2.2]
def c_tL (E : pw_E) (h : pw_H) (m : Nat) (v : tV) (xs : List tE) (S : tS) : Prop :=
  h m = some (22, t_os v S) ∧ pw_base E ≤ m ∧ ∀ e ∈ xs, pw_base E ≤ e.1 ∧ h e.1 = some (23, t_fs e S)
def t_F (m : Nat) (xs : List tE) : Nat → Prop := fun q => q = m ∨ ∃ e ∈ xs, q = e.1
def tU (E : pw_E) (m : Nat) (xs : List tE) (w u : pw_W) : Prop := cx E w u (t_F m xs) 0 ∧ u.2 = w.2
theorem t_mem {xs : List tE} {a : Nat} (h : a ∈ t_ids xs) : ∃ e ∈ xs, e.1 = a := by
  obtain ⟨e, h1, h2⟩ := List.mem_map.mp h
  exact ⟨e, h1, h2⟩
theorem tU.refl {E : pw_E} {m : Nat} {xs : List tE} {w : pw_W} (h : wf E w) : tU E m xs w w := ⟨cx.refl h, rfl⟩
theorem tU.tr {E : pw_E} {m : Nat} {xs : List tE} {w u v : pw_W} (h : tU E m xs w u) (h' : tU E m xs u v) : tU E m xs w v := ⟨(h.1.tr h'.1).le (by omega), h'.2.trans h.2⟩
section
variable {E : pw_E} {d : Nat} {u : pw_W} {m : Nat} {v : tV} {xs : List tE} {S : tS}
theorem c_tL.node (k : c_tL E u.1 m v xs S) {a : Nat} (ha : a ∈ t_ids xs) : ∃ e : tE, e ∈ xs ∧ e.1 = a ∧ pw_base E ≤ a ∧ u.1 a = some (23, t_fs e S) := by
  obtain ⟨e, h1, rfl⟩ := t_mem ha
  exact ⟨e, h1, rfl, k.2.2 e h1⟩
theorem tl_g2 (k : c_tL E u.1 m v xs S) {a : Nat} (ha : a ∈ t_ids xs) {K : Option Nat → Prop} (H : K (S.1 a)) : f_getr u (some a) 23 2 K := by
  obtain ⟨e, h1, rfl, h2, h3⟩ := k.node ha
  exact ⟨e.1, _, _, rfl, h3, rfl, H⟩
theorem tl_g3 (k : c_tL E u.1 m v xs S) {a : Nat} (ha : a ∈ t_ids xs) {K : Option Nat → Prop} (H : K (S.2.1 a)) : f_getr u (some a) 23 3 K := by
  obtain ⟨e, h1, rfl, h2, h3⟩ := k.node ha
  exact ⟨e.1, _, _, rfl, h3, rfl, H⟩
theorem tl_g4 (k : c_tL E u.1 m v xs S) {a : Nat} (ha : a ∈ t_ids xs) {K : Option Nat → Prop} (H : K (S.2.2.1 a)) : f_getr u (some a) 23 4 K := by
  obtain ⟨e, h1, rfl, h2, h3⟩ := k.node ha
  exact ⟨e.1, _, _, rfl, h3, rfl, H⟩
theorem tl_g5 (k : c_tL E u.1 m v xs S) {a : Nat} (ha : a ∈ t_ids xs) {K : Int32 → Prop} (H : K (bI (S.2.2.2.1 a))) : f_geti u (some a) 23 5 K := by
  obtain ⟨e, h1, rfl, h2, h3⟩ := k.node ha
  exact ⟨e.1, _, _, rfl, h3, rfl, H⟩
theorem tl_gr (k : c_tL E u.1 m v xs S) {K : Option Nat → Prop} (H : K S.2.2.2.2) : f_getr u (some m) 22 3 K := ⟨m, _, _, rfl, k.1, rfl, H⟩
/-- a field of a node is set -/
theorem tl_put (hw : wf E u) (k : c_tL E u.1 m v xs S) {a : Nat} (ha : a ∈ t_ids xs) {j : Nat} {x : Value} {S' : tS} (hr : S'.2.2.2.2 = S.2.2.2.2) (h0 : ∀ e : tE, e.1 = a → (t_fs e S).set j x = t_fs e S') (h1 : ∀ e : tE, e.1 ≠ a → t_fs e S' = t_fs e S) {K : pw_W → Prop} (H : ∀ u', tU E m xs u u' → c_tL E u'.1 m v xs S' → K u') : f_put E u (some a) 23 j x K := by
  obtain ⟨e, g1, rfl, g2, g3⟩ := k.node ha
  have hm : m ≠ e.1 := by
    intro q
    have := k.1
    rw [q, g3] at this
    cases this
  refine ⟨e.1, _, rfl, g3, g2, H _ ⟨cx.up hw _ g3 g2 (Or.inr ⟨e, g1, rfl⟩), rfl⟩ ⟨?_, k.2.1, fun f hf => ⟨(k.2.2 f hf).1, ?_⟩⟩⟩
  · rw [pw_up_ne hm, k.1]
    unfold t_os
    rw [hr]
  · by_cases q : f.1 = e.1
    · rw [q, pw_up_1]
      have h2 := (k.2.2 f hf).2
      rw [q, g3] at h2
      have h3 : t_fs e S = t_fs f S := (Prod.mk.inj (Option.some.inj h2)).2
      rw [h3, h0 f q]
    · rw [pw_up_ne q, (k.2.2 f hf).2, h1 f q]
theorem tl_p2 (hw : wf E u) (k : c_tL E u.1 m v xs S) {a : Nat} (ha : a ∈ t_ids xs) {o : Option Nat} {K : pw_W → Prop} (H : ∀ u', tU E m xs u u' → c_tL E u'.1 m v xs (t_up S.1 a o, S.2) → K u') : f_put E u (some a) 23 2 (va_rf o) K :=
  tl_put hw k ha (S' := (t_up S.1 a o, S.2)) rfl (fun e q => by simp [t_fs, t_up, q]) (fun e q => by simp [t_fs, t_up, q]) H
theorem tl_p3 (hw : wf E u) (k : c_tL E u.1 m v xs S) {a : Nat} (ha : a ∈ t_ids xs) {o : Option Nat} {K : pw_W → Prop} (H : ∀ u', tU E m xs u u' → c_tL E u'.1 m v xs (S.1, t_up S.2.1 a o, S.2.2) → K u') : f_put E u (some a) 23 3 (va_rf o) K :=
  tl_put hw k ha (S' := (S.1, t_up S.2.1 a o, S.2.2)) rfl (fun e q => by simp [t_fs, t_up, q]) (fun e q => by simp [t_fs, t_up, q]) H
theorem tl_p4 (hw : wf E u) (k : c_tL E u.1 m v xs S) {a : Nat} (ha : a ∈ t_ids xs) {o : Option Nat} {K : pw_W → Prop} (H : ∀ u', tU E m xs u u' → c_tL E u'.1 m v xs (S.1, S.2.1, t_up S.2.2.1 a o, S.2.2.2) → K u') : f_put E u (some a) 23 4 (va_rf o) K :=
  tl_put hw k ha (S' := (S.1, S.2.1, t_up S.2.2.1 a o, S.2.2.2)) rfl (fun e q => by simp [t_fs, t_up, q]) (fun e q => by simp [t_fs, t_up, q]) H
theorem tl_p5 (hw : wf E u) (k : c_tL E u.1 m v xs S) {a : Nat} (ha : a ∈ t_ids xs) {b : Bool} {K : pw_W → Prop} (H : ∀ u', tU E m xs u u' → c_tL E u'.1 m v xs (S.1, S.2.1, S.2.2.1, t_up S.2.2.2.1 a b, S.2.2.2.2) → K u') : f_put E u (some a) 23 5 (.int (bI b)) K :=
  tl_put hw k ha (S' := (S.1, S.2.1, S.2.2.1, t_up S.2.2.2.1 a b, S.2.2.2.2)) rfl (fun e q => by simp [t_fs, t_up, q]) (fun e q => by simp [t_fs, t_up, q]) H
theorem tl_pr (hw : wf E u) (k : c_tL E u.1 m v xs S) {o : Option Nat} {K : pw_W → Prop} (H : ∀ u', tU E m xs u u' → c_tL E u'.1 m v xs (S.1, S.2.1, S.2.2.1, S.2.2.2.1, o) → K u') : f_put E u (some m) 22 3 (va_rf o) K := by
  refine ⟨m, _, rfl, k.1, k.2.1, H _ ⟨cx.up hw _ k.1 k.2.1 (Or.inl rfl), rfl⟩ ⟨?_, k.2.1, fun f hf => ⟨(k.2.2 f hf).1, ?_⟩⟩⟩
  · rw [pw_up_1]
    rfl
  · have hm : f.1 ≠ m := by
      intro q
      have := (k.2.2 f hf).2
      rw [q, k.1] at this
      cases this
    rw [pw_up_ne hm, (k.2.2 f hf).2]
    rfl
theorem tm_parentOf_ok (hd : 1 ≤ d) (k : c_tL E u.1 m v xs S) {o : Option Nat} (ho : ∀ a, o = some a → a ∈ t_ids xs) {K : Option Nat → pw_W → Prop} (H : K (o.bind S.2.2.1) u) : pw_Cl E m_J18_parentOf d [va_rf o] u (c_r K) := by
  replace hd := pw_d1 hd; obtain ⟨e, rfl, hd⟩ := hd
  refine e_J18_parentOf _ (s_J18_parentOf_0 _ ?_)
  cases o with
  | none => exact ifT rfl ⟨_, rfl, H⟩
  | some a => exact ifF (by simp) (tl_g4 k (ho a rfl) ⟨_, rfl, H⟩)
theorem tm_leftOf_ok (hd : 1 ≤ d) (k : c_tL E u.1 m v xs S) {o : Option Nat} (ho : ∀ a, o = some a → a ∈ t_ids xs) {K : Option Nat → pw_W → Prop} (H : K (o.bind S.1) u) : pw_Cl E m_J18_leftOf d [va_rf o] u (c_r K) := by
  replace hd := pw_d1 hd; obtain ⟨e, rfl, hd⟩ := hd
  refine e_J18_leftOf _ (s_J18_leftOf_0 _ ?_)
  cases o with
  | none => exact ifT rfl ⟨_, rfl, H⟩
  | some a => exact ifF (by simp) (tl_g2 k (ho a rfl) ⟨_, rfl, H⟩)
theorem tm_rightOf_ok (hd : 1 ≤ d) (k : c_tL E u.1 m v xs S) {o : Option Nat} (ho : ∀ a, o = some a → a ∈ t_ids xs) {K : Option Nat → pw_W → Prop} (H : K (o.bind S.2.1) u) : pw_Cl E m_J18_rightOf d [va_rf o] u (c_r K) := by
  replace hd := pw_d1 hd; obtain ⟨e, rfl, hd⟩ := hd
  refine e_J18_rightOf _ (s_J18_rightOf_0 _ ?_)
  cases o with
  | none => exact ifT rfl ⟨_, rfl, H⟩
  | some a => exact ifF (by simp) (tl_g3 k (ho a rfl) ⟨_, rfl, H⟩)
theorem tm_colorOf_ok (hd : 1 ≤ d) (k : c_tL E u.1 m v xs S) {o : Option Nat} (ho : ∀ a, o = some a → a ∈ t_ids xs) {K : Bool → pw_W → Prop} (H : K ((o.map S.2.2.2.1).getD true) u) : pw_Cl E m_J18_colorOf d [va_rf o] u (c_z K) := by
  replace hd := pw_d1 hd; obtain ⟨e, rfl, hd⟩ := hd
  refine e_J18_colorOf _ (s_J18_colorOf_0 _ ?_)
  cases o with
  | none => exact ifT rfl ⟨true, rfl, H⟩
  | some a => exact ifF (by simp) (tl_g5 k (ho a rfl) ⟨nar_bI _, _, rfl, H⟩)
theorem tm_setColor_ok (hd : 1 ≤ d) (hw : wf E u) (k : c_tL E u.1 m v xs S) {o : Option Nat} (ho : ∀ a, o = some a → a ∈ t_ids xs) {b : Bool} {K : pw_W → Prop} (H0 : o = none → K u) (H : ∀ (a : Nat) (u' : pw_W), o = some a → tU E m xs u u' → c_tL E u'.1 m v xs (S.1, S.2.1, S.2.2.1, t_up S.2.2.2.1 a b, S.2.2.2.2) → K u') : pw_Cl E m_J18_setColor d [va_rf o, .int (bI b)] u (c_v K) := by
  replace hd := pw_d1 hd; obtain ⟨e, rfl, hd⟩ := hd
  refine e_J18_setColor _ _ (s_J18_setColor_0 _ _ ?_)
  cases o with
  | none => exact ifT rfl ⟨rfl, H0 rfl⟩
  | some a => exact ifF (by simp) (tl_p5 hw k (ho a rfl) (fun u' h1 h2 => ⟨rfl, H a u' rfl h1 h2⟩))
def t_rl (S : tS) (p r : Nat) : tS := (fun q => if q = r then some p else if S.2.2.1 p = some q ∧ S.1 q = some p then some r else S.1 q, fun q => if q = p then S.1 r else if S.2.2.1 p = some q ∧ ¬ S.1 q = some p then some r else S.2.1 q, fun q => if q = p then some r else if q = r then S.2.2.1 p else if S.1 r = some q then some p else S.2.2.1 q, S.2.2.2.1, if S.2.2.1 p = none then some r else S.2.2.2.2)
def t_rr (S : tS) (p r : Nat) : tS := (fun q => if q = p then S.2.1 r else if S.2.2.1 p = some q ∧ ¬ S.2.1 q = some p then some r else S.1 q, fun q => if q = r then some p else if S.2.2.1 p = some q ∧ S.2.1 q = some p then some r else S.2.1 q, fun q => if q = p then some r else if q = r then S.2.2.1 p else if S.2.1 r = some q then some p else S.2.2.1 q, S.2.2.2.1, if S.2.2.1 p = none then some r else S.2.2.2.2)
def t_I (xs : List tE) (S : tS) : Prop := ∃ lo hi, tI (t_ids xs) S.1 S.2.1 S.2.2.1 lo hi S.2.2.2.2
/-- what stands about a node's neighbours -/
theorem t_I.nb (h : t_I xs S) {a : Nat} (ha : a ∈ t_ids xs) : (∀ b, S.1 a = some b → b ∈ t_ids xs ∧ S.2.2.1 b = some a ∧ b ≠ a ∧ S.2.1 a ≠ some b) ∧ (∀ b, S.2.1 a = some b → b ∈ t_ids xs ∧ S.2.2.1 b = some a ∧ b ≠ a ∧ S.1 a ≠ some b) ∧ (S.2.2.1 a = none → S.2.2.2.2 = some a) ∧ (∀ g, S.2.2.1 a = some g → g ∈ t_ids xs ∧ (S.1 g = some a ∨ S.2.1 g = some a) ∧ g ≠ a) := by
  obtain ⟨lo, hi, h⟩ := h
  obtain ⟨i, hi0⟩ := mem_ix ha
  obtain ⟨a1, a2, a3, a4, a5, a6, a7, a8, a9⟩ := h.2.1 i a hi0
  refine ⟨fun b hb => ?_, fun b hb => ?_, a8, fun g hg => ?_⟩
  · obtain ⟨b1, b2, b3, b4⟩ := a5 b hb
    refine ⟨b1, b4, ?_, fun q => ?_⟩
    · rintro rfl; omega
    · obtain ⟨c1, c2, c3, c4⟩ := a7 b q
      omega
  · obtain ⟨b1, b2, b3, b4⟩ := a7 b hb
    refine ⟨b1, b4, ?_, fun q => ?_⟩
    · rintro rfl; omega
    · obtain ⟨c1, c2, c3, c4⟩ := a5 b q
      omega
  · exact ⟨(a9 g hg).1, (a9 g hg).2, h.up_ne hi0 hg⟩
theorem t_I.root (h : t_I xs S) {a : Nat} (ha : S.2.2.2.2 = some a) : a ∈ t_ids xs := by
  obtain ⟨lo, hi, h⟩ := h
  exact (h.2.2.1 a ha).1
theorem t_I.root0 (h : t_I xs S) (ha : S.2.2.2.2 = none) : t_ids xs = [] := by
  obtain ⟨lo, hi, h⟩ := h
  exact h.2.2.2 ha
theorem t_I.rl (h : t_I xs S) {p r : Nat} (hp : p ∈ t_ids xs) (hr : S.2.1 p = some r) : t_I xs (t_rl S p r) := by
  obtain ⟨lo, hi, h⟩ := h
  obtain ⟨lo', hi', h'⟩ := h.rotL hp hr
  exact ⟨lo', hi', h'⟩
theorem t_I.rr (h : t_I xs S) {p r : Nat} (hp : p ∈ t_ids xs) (hr : S.1 p = some r) : t_I xs (t_rr S p r) := by
  obtain ⟨lo, hi, h⟩ := h
  obtain ⟨lo', hi', h'⟩ := h.rotR hp hr
  exact ⟨lo', hi', h'⟩
theorem tm_rotateLeft_ok (hd : 1 ≤ d) (hw : wf E u) (k : c_tL E u.1 m v xs S) (hI : t_I xs S) {p r : Nat} (hp : p ∈ t_ids xs) (hr : S.2.1 p = some r) {K : pw_W → Prop} (H : ∀ u', tU E m xs u u' → c_tL E u'.1 m v xs (t_rl S p r) → K u') : pw_Cl E m_J18_rotateLeft d [va_rf (some m), va_rf (some p)] u (c_v K) := by
  replace hd := pw_d1 hd; obtain ⟨e, rfl, hd⟩ := hd
  obtain ⟨-, n2, n3, n4⟩ := hI.nb hp
  obtain ⟨r1, r2, r3, r4⟩ := n2 r hr
  obtain ⟨m1, m2, m3, m4⟩ := hI.nb r1
  have hgr : ∀ g, S.2.2.1 p = some g → g ≠ r := by
    rintro g hg rfl
    rcases (n4 g hg).2.1 with q | q
    · have := (m1 p q).2.1
      obtain ⟨lo, hi, hh⟩ := hI
      obtain ⟨i, hi0⟩ := mem_ix hp
      obtain ⟨j, hj0⟩ := mem_ix r1
      obtain ⟨a1, a2, a3, a4, a5, a6, a7, a8, a9⟩ := hh.2.1 i p hi0
      obtain ⟨b1, b2, b3, b4, b5, b6, b7, b8, b9⟩ := hh.2.1 j g hj0
      have := a7 g hr
      have := b5 p q
      omega
    · obtain ⟨lo, hi, hh⟩ := hI
      obtain ⟨i, hi0⟩ := mem_ix hp
      obtain ⟨j, hj0⟩ := mem_ix r1
      obtain ⟨a1, a2, a3, a4, a5, a6, a7, a8, a9⟩ := hh.2.1 i p hi0
      obtain ⟨b1, b2, b3, b4, b5, b6, b7, b8, b9⟩ := hh.2.1 j g hj0
      have := a7 g hr
      have := b7 p q
      omega
  have hxp : ∀ x, S.1 r = some x → x ≠ p := by
    rintro x hx rfl
    have := (m1 x hx).2.1
    exact hgr r this rfl
  have hxg : ∀ x g, S.1 r = some x → S.2.2.1 p = some g → g ≠ x := by
    rintro x g hx hg rfl
    obtain ⟨lo, hi, hh⟩ := hI
    obtain ⟨i, hi0⟩ := mem_ix hp
    obtain ⟨j, hj0⟩ := mem_ix r1
    obtain ⟨c, hc0⟩ := mem_ix (m1 g hx).1
    obtain ⟨a1, a2, a3, a4, a5, a6, a7, a8, a9⟩ := hh.2.1 i p hi0
    obtain ⟨b1, b2, b3, b4, b5, b6, b7, b8, b9⟩ := hh.2.1 j r hj0
    obtain ⟨c1, c2, c3, c4, c5, c6, c7, c8, c9⟩ := hh.2.1 c g hc0
    have := a7 r hr
    have := b5 g hx
    rcases (a9 g hg).2 with q | q
    · have := c5 p q; omega
    · have := c7 p q; omega
  have hpr : p ≠ r := Ne.symm r3
  /- the last two links, and all said -/
  have fin : ∀ (u0 u1 : pw_W) (S1 : tS), tU E m xs u u1 → c_tL E u1.1 m v xs S1 → (t_up S1.1 r (some p), S1.2.1, t_up S1.2.2.1 p (some r), S1.2.2.2) = t_rl S p r → f_put E u1 (some r) 23 2 (va_rf (some p)) (fun w76 => f_put E w76 (some p) 23 4 (va_rf (some r)) (fun w80 => c_v K (.inl none) w80)) := by
    intro u0 u1 S1 hU k1 hS
    refine tl_p2 hU.1.ok k1 r1 (fun u2 hU2 k2 => tl_p4 hU2.1.ok k2 hp (fun u3 hU3 k3 => ⟨rfl, H u3 ((hU.tr hU2).tr hU3) ?_⟩))
    rw [← hS]
    exact k3
  refine e_J18_rotateLeft _ _ (s_J18_rotateLeft_0 _ _ (ifF (by simp) (tl_g3 k hp ?_)))
  rw [hr]
  refine tl_g2 k r1 (tl_p3 hw k hp (fun u1 hU1 k1 => tl_g2 k1 r1 ?_))
  show if S.1 r = none then _ else _
  cases hx : S.1 r with
  | none =>
    refine ifT rfl (tl_g4 k1 hp (tl_p4 hU1.1.ok k1 r1 (fun u2 hU2 k2 => tl_g4 k2 hp ?_)))
    have eP : t_up S.2.2.1 r (S.2.2.1 p) p = S.2.2.1 p := by unfold t_up; rw [if_neg hpr]
    show if t_up S.2.2.1 r (S.2.2.1 p) p = none then _ else _
    rw [eP]
    cases hg : S.2.2.1 p with
    | none =>
      refine ifT rfl (tl_pr hU2.1.ok k2 (fun u3 hU3 k3 => fin u _ _ ((hU1.tr hU2).tr hU3) k3 ?_))
      unfold t_rl t_up
      refine Prod.ext (funext fun q => ?_) (Prod.ext (funext fun q => ?_) (Prod.ext (funext fun q => ?_) (Prod.ext rfl ?_)))
      · simp [hg]
      · simp [hg, hx]
      · simp [hg, hx]
      · simp [hg]
    | some g =>
      obtain ⟨g1, g2, g3⟩ := n4 g hg
      have gr := hgr g hg
      refine ifF (by simp) (tl_g4 k2 hp ?_)
      show f_getr u2 (t_up S.2.2.1 r (S.2.2.1 p) p) 23 2 _
      rw [eP, hg]
      refine tl_g2 k2 g1 ?_
      show if S.1 g = some p then _ else _
      by_cases z : S.1 g = some p
      · refine ifT z (tl_g4 k2 hp ?_)
        show f_put E u2 (t_up S.2.2.1 r (S.2.2.1 p) p) 23 2 _ _
        rw [eP, hg]
        refine tl_p2 hU2.1.ok k2 g1 (fun u3 hU3 k3 => fin u _ _ ((hU1.tr hU2).tr hU3) k3 ?_)
        unfold t_rl t_up
        refine Prod.ext (funext fun q => ?_) (Prod.ext (funext fun q => ?_) (Prod.ext (funext fun q => ?_) (Prod.ext rfl ?_)))
        · show (if q = r then some p else if q = g then some r else S.1 q) = (if q = r then some p else if S.2.2.1 p = some q ∧ S.1 q = some p then some r else S.1 q)
          by_cases y : q = g
          · subst y; rw [if_pos (c := q = q) rfl, if_pos (c := S.2.2.1 p = some q ∧ S.1 q = some p) ⟨hg, z⟩]
          · rw [if_neg (c := q = g) y, if_neg (c := S.2.2.1 p = some q ∧ S.1 q = some p) (fun t => y (by have := t.1; rw [hg] at this; cases this; rfl))]
        · show (if q = p then S.1 r else S.2.1 q) = (if q = p then S.1 r else if S.2.2.1 p = some q ∧ ¬ S.1 q = some p then some r else S.2.1 q)
          rw [if_neg (c := S.2.2.1 p = some q ∧ ¬ S.1 q = some p) (fun t => t.2 (by have := t.1; rw [hg] at this; cases this; exact z))]
        · simp [hx, hg]
        · simp [hg]
      · refine ifF z (tl_g4 k2 hp ?_)
        show f_put E u2 (t_up S.2.2.1 r (S.2.2.1 p) p) 23 3 _ _
        rw [eP, hg]
        refine tl_p3 hU2.1.ok k2 g1 (fun u3 hU3 k3 => fin u _ _ ((hU1.tr hU2).tr hU3) k3 ?_)
        unfold t_rl t_up
        refine Prod.ext (funext fun q => ?_) (Prod.ext (funext fun q => ?_) (Prod.ext (funext fun q => ?_) (Prod.ext rfl ?_)))
        · show (if q = r then some p else S.1 q) = (if q = r then some p else if S.2.2.1 p = some q ∧ S.1 q = some p then some r else S.1 q)
          rw [if_neg (c := S.2.2.1 p = some q ∧ S.1 q = some p) (fun t => z (by have := t.1; rw [hg] at this; cases this; exact t.2))]
        · show (if q = g then some r else if q = p then S.1 r else S.2.1 q) = (if q = p then S.1 r else if S.2.2.1 p = some q ∧ ¬ S.1 q = some p then some r else S.2.1 q)
          by_cases y : q = g
          · subst y; rw [if_pos (show q = q from rfl), if_neg g3, if_pos ⟨hg, z⟩]
          · rw [if_neg y, if_neg (c := S.2.2.1 p = some q ∧ ¬ S.1 q = some p) (fun t => y (by have := t.1; rw [hg] at this; cases this; rfl))]
        · simp [hx, hg]
        · simp [hg]
  | some x =>
    obtain ⟨x1, x2, x3, x4⟩ := m1 x hx
    have xp := hxp x hx
    refine ifF (by simp) (tl_g2 k1 r1 ?_)
    show f_put E u1 (S.1 r) 23 4 _ _
    rw [hx]
    refine tl_p4 hU1.1.ok k1 x1 (fun u2 hU2 k2 => tl_g4 k2 hp ?_)
    have eP0 : t_up S.2.2.1 x (some p) p = S.2.2.1 p := by unfold t_up; rw [if_neg (Ne.symm xp)]
    show f_put E u2 (some r) 23 4 (va_rf (t_up S.2.2.1 x (some p) p)) _
    rw [eP0]
    refine tl_p4 hU2.1.ok k2 r1 (fun u3 hU3 k3 => tl_g4 k3 hp ?_)
    have eP : t_up (t_up S.2.2.1 x (some p)) r (S.2.2.1 p) p = S.2.2.1 p := by unfold t_up; rw [if_neg hpr, if_neg (Ne.symm xp)]
    show if t_up (t_up S.2.2.1 x (some p)) r (S.2.2.1 p) p = none then _ else _
    rw [eP]
    have ePf : ∀ q, (if q = p then some r else if q = r then S.2.2.1 p else if q = x then some p else S.2.2.1 q) = (if q = p then some r else if q = r then S.2.2.1 p else if some x = some q then some p else S.2.2.1 q) := by
      intro q
      by_cases y : q = x
      · subst y; simp
      · simp [y, Ne.symm y]
    cases hg : S.2.2.1 p with
    | none =>
      refine ifT rfl (tl_pr hU3.1.ok k3 (fun u4 hU4 k4 => fin u _ _ (((hU1.tr hU2).tr hU3).tr hU4) k4 ?_))
      unfold t_rl t_up
      refine Prod.ext (funext fun q => ?_) (Prod.ext (funext fun q => ?_) (Prod.ext (funext fun q => ?_) (Prod.ext rfl ?_)))
      · simp [hg]
      · simp [hg, hx]
      · have := ePf q
        rw [hg] at this
        simp only [hg, hx]
        exact this
      · simp [hg]
    | some g =>
      obtain ⟨g1, g2, g3⟩ := n4 g hg
      have gr := hgr g hg
      refine ifF (by simp) (tl_g4 k3 hp ?_)
      show f_getr u3 (t_up (t_up S.2.2.1 x (some p)) r (S.2.2.1 p) p) 23 2 _
      rw [eP, hg]
      refine tl_g2 k3 g1 ?_
      show if S.1 g = some p then _ else _
      by_cases z : S.1 g = some p
      · refine ifT z (tl_g4 k3 hp ?_)
        show f_put E u3 (t_up (t_up S.2.2.1 x (some p)) r (S.2.2.1 p) p) 23 2 _ _
        rw [eP, hg]
        refine tl_p2 hU3.1.ok k3 g1 (fun u4 hU4 k4 => fin u _ _ (((hU1.tr hU2).tr hU3).tr hU4) k4 ?_)
        unfold t_rl t_up
        refine Prod.ext (funext fun q => ?_) (Prod.ext (funext fun q => ?_) (Prod.ext (funext fun q => ?_) (Prod.ext rfl ?_)))
        · show (if q = r then some p else if q = g then some r else S.1 q) = (if q = r then some p else if S.2.2.1 p = some q ∧ S.1 q = some p then some r else S.1 q)
          by_cases y : q = g
          · subst y; rw [if_pos (c := q = q) rfl, if_pos (c := S.2.2.1 p = some q ∧ S.1 q = some p) ⟨hg, z⟩]
          · rw [if_neg (c := q = g) y, if_neg (c := S.2.2.1 p = some q ∧ S.1 q = some p) (fun t => y (by have := t.1; rw [hg] at this; cases this; rfl))]
        · show (if q = p then S.1 r else S.2.1 q) = (if q = p then S.1 r else if S.2.2.1 p = some q ∧ ¬ S.1 q = some p then some r else S.2.1 q)
          rw [if_neg (c := S.2.2.1 p = some q ∧ ¬ S.1 q = some p) (fun t => t.2 (by have := t.1; rw [hg] at this; cases this; exact z))]
        · have := ePf q
          simp only [hx]
          rw [hg] at this ⊢
          exact this
        · simp [hg]
      · refine ifF z (tl_g4 k3 hp ?_)
        show f_put E u3 (t_up (t_up S.2.2.1 x (some p)) r (S.2.2.1 p) p) 23 3 _ _
        rw [eP, hg]
        refine tl_p3 hU3.1.ok k3 g1 (fun u4 hU4 k4 => fin u _ _ (((hU1.tr hU2).tr hU3).tr hU4) k4 ?_)
        unfold t_rl t_up
        refine Prod.ext (funext fun q => ?_) (Prod.ext (funext fun q => ?_) (Prod.ext (funext fun q => ?_) (Prod.ext rfl ?_)))
        · show (if q = r then some p else S.1 q) = (if q = r then some p else if S.2.2.1 p = some q ∧ S.1 q = some p then some r else S.1 q)
          rw [if_neg (c := S.2.2.1 p = some q ∧ S.1 q = some p) (fun t => z (by have := t.1; rw [hg] at this; cases this; exact t.2))]
        · show (if q = g then some r else if q = p then S.1 r else S.2.1 q) = (if q = p then S.1 r else if S.2.2.1 p = some q ∧ ¬ S.1 q = some p then some r else S.2.1 q)
          by_cases y : q = g
          · subst y; rw [if_pos (show q = q from rfl), if_neg g3, if_pos ⟨hg, z⟩]
          · rw [if_neg y, if_neg (c := S.2.2.1 p = some q ∧ ¬ S.1 q = some p) (fun t => y (by have := t.1; rw [hg] at this; cases this; rfl))]
        · have := ePf q
          simp only [hx]
          rw [hg] at this ⊢
          exact this
        · simp [hg]
end
