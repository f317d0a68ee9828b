set_option maxRecDepth 100000
/-! the component: sub-heaps; what lies in the statics; how a world goes on -/
def c_sub (p h : pw_H) : Prop := ∀ (a : Nat) (o : pw_O), p a = some o → h a = some o
/-- a string of small letters -/
def c_str (h : pw_H) (a : Nat) (s : List Int) : Prop := ∃ (b : Nat) (v2 v3 : Value), h a = some (21, [va_rf (some b), .int 0, v2, v3]) ∧ h b = some (1001, s.map (fun c => Value.int (iI c))) ∧ s.length ≤ 1000 ∧ ∀ c ∈ s, 97 ≤ c ∧ c ≤ 122
/-- a row of strings -/
def c_strs (h : pw_H) (b : Nat) (ss : List (List Int)) : Prop := ∃ vs : List Nat, h b = some (1004, vs.map (fun a => va_rf (some a))) ∧ vs.length = ss.length ∧ ∀ (i a : Nat) (s : List Int), vs[i]? = some a → ss[i]? = some s → c_str h a s
def c_w1 : List (List Int) := [[100, 111, 99], [112, 117, 116], [99, 117, 116], [109, 111, 118, 101], [98, 97, 99, 107]]
def c_w2 : List (List Int) := [[112, 104, 114, 97, 115, 101], [110, 101, 97, 114], [109, 97, 110, 121], [110, 111, 116], [101, 118, 101, 114], [110, 101, 119], [97, 110, 100], [111, 114]]
def c_w3 : List (List Int) := [[111, 117, 116], [105, 110]]
/-- what lies in the statics -/
def c_S (E : pw_E) (h : pw_H) : Prop :=
  (∃ b : Nat, E.2.2.2.2 1 = va_rf (some b) ∧ h b = some (1003, [])) ∧
  (E.2.2.2.2 2 = .int 1 ∧ (∃ x : Option Nat, E.2.2.2.2 3 = va_rf x) ∧ (∃ x : Option Nat, E.2.2.2.2 4 = va_rf x) ∧ (∃ x : Option Nat, E.2.2.2.2 5 = va_rf x) ∧ E.2.2.2.2 6 = .int 127 ∧ (∃ x : Nat, E.2.2.2.2 8 = va_rf (some x)) ∧ ∃ mi : Nat, E.2.2.2.2 100 = .ref mi) ∧
  (∃ (b : Nat) (vs : List Value), E.2.2.2.2 7 = va_rf (some b) ∧ h b = some (1007, vs) ∧ vs.length = 256 ∧ ∀ i : Nat, i < 256 → ∃ c : Nat, vs[i]? = some (va_rf (some c)) ∧ h c = some (28, [.int (iI ((i : Int) - 128))])) ∧
  (∃ (b : Nat) (ks : List Nat), E.2.2.2.2 19 = va_rf (some b) ∧ h b = some (1006, ks.map (fun k => va_rf (some k))) ∧ ks.length = 8 ∧ (∀ i k : Nat, ks[i]? = some k → h k = some (29, [.int (iI i)])) ∧ ∀ i : Nat, i < 3 → E.2.2.2.2 (9 + i) = va_rf ks[i]?) ∧
  (∃ ps : List Nat, ps.length = 5 ∧ ps.Nodup ∧ ∀ i : Nat, i < 5 → E.2.2.2.2 (12 + i) = va_rf ps[i]?) ∧
  (∃ b : Nat, E.2.2.2.2 17 = va_rf (some b) ∧ c_strs h b c_w1) ∧ (∃ b : Nat, E.2.2.2.2 20 = va_rf (some b) ∧ c_strs h b c_w2) ∧ (∃ b : Nat, E.2.2.2.2 18 = va_rf (some b) ∧ c_strs h b c_w3)
def c_st (E : pw_E) (h : pw_H) : Prop := ∃ z : pw_H, c_S E z ∧ (∀ (a : Nat) (o : pw_O), z a = some o → a < pw_base E) ∧ c_sub z h
def wf (E : pw_E) (w : pw_W) : Prop := pw_base E ≤ w.2.1 ∧ (∀ a : Nat, w.2.1 ≤ a → w.1 a = none) ∧ c_st E w.1
def c_no : Nat → Prop := fun _ => False
/-- from w to w': what lay there but at places of F is as it was; at most c is spent (4 a cell, 1 a slot) -/
def cx (E : pw_E) (w w' : pw_W) (F : Nat → Prop) (c : Nat) : Prop := w.2.1 ≤ w'.2.1 ∧ wf E w' ∧ (∀ (a : Nat) (o : pw_O), w.1 a = some o → ¬ F a → w'.1 a = some o) ∧ 4 * w'.2.1 + w'.2.2 ≤ 4 * w.2.1 + w.2.2 + c
section
variable {E : pw_E} {w w1 w2 w' : pw_W} {F G : Nat → Prop} {c c' : Nat} {p q h h' : pw_H}
theorem c_sub.refl (h : pw_H) : c_sub h h := fun _ _ k => k
theorem c_sub.trans (k : c_sub p q) (k' : c_sub q h) : c_sub p h := fun a o e => k' a o (k a o e)
theorem c_str.mono {a : Nat} {s : List Int} (k : c_str p a s) (z : c_sub p h) : c_str h a s := by
  obtain ⟨b, v2, v3, h1, h2, h3⟩ := k
  exact ⟨b, v2, v3, z _ _ h1, z _ _ h2, h3⟩
theorem c_strs.mono {b : Nat} {ss : List (List Int)} (k : c_strs p b ss) (z : c_sub p h) : c_strs h b ss := by
  obtain ⟨vs, h1, h2, h3⟩ := k
  exact ⟨vs, z _ _ h1, h2, fun i a s e f => (h3 i a s e f).mono z⟩
theorem c_S.mono (k : c_S E p) (z : c_sub p h) : c_S E h := by
  obtain ⟨⟨b, b1, b2⟩, h2, ⟨b3, vs, d1, d2, d3, d4⟩, ⟨b4, ks, e1, e2, e3, e4, e5⟩, h5, ⟨f1, f2, f3⟩, ⟨g1, g2, g3⟩, ⟨i1, i2, i3⟩⟩ := k
  refine ⟨⟨b, b1, z _ _ b2⟩, h2, ⟨b3, vs, d1, z _ _ d2, d3, fun i hi => ?_⟩, ⟨b4, ks, e1, z _ _ e2, e3, fun i k q => z _ _ (e4 i k q), e5⟩, h5, ⟨f1, f2, f3.mono z⟩, ⟨g1, g2, g3.mono z⟩, ⟨i1, i2, i3.mono z⟩⟩
  obtain ⟨c, c1, c2⟩ := d4 i hi
  exact ⟨c, c1, z _ _ c2⟩
theorem wf.S (k : wf E w) : c_S E w.1 := by
  obtain ⟨-, -, z, z1, -, z3⟩ := k
  exact z1.mono z3
theorem wf.b (k : wf E w) : pw_base E ≤ w.2.1 := k.1
theorem wf.lt (k : wf E w) {a : Nat} {o : pw_O} (ha : w.1 a = some o) : a < w.2.1 := by
  rcases Nat.lt_or_ge a w.2.1 with e | e
  · exact e
  · rw [k.2.1 a e] at ha; cases ha
theorem wf.new (k : wf E w) (o : pw_O) (n : Nat) : wf E (pw_new w o n) := by
  obtain ⟨k1, k2, z, z1, z2, z3⟩ := k
  refine ⟨Nat.le_succ_of_le k1, fun a ha => ?_, z, z1, z2, fun a o e => ?_⟩
  · have ha : w.2.1 + 1 ≤ a := ha
    rw [pw_new_ne (by omega)]
    exact k2 a (by omega)
  · have := z2 a o e
    rw [pw_new_ne (by omega)]
    exact z3 a o e
theorem wf.up (k : wf E w) {a : Nat} (o : pw_O) (hb : pw_base E ≤ a) (ha : a < w.2.1) : wf E (pw_up w a o) := by
  obtain ⟨k1, k2, z, z1, z2, z3⟩ := k
  refine ⟨k1, fun b hb => ?_, z, z1, z2, fun b o e => ?_⟩
  · have hb : w.2.1 ≤ b := hb
    rw [pw_up_ne (by omega)]
    exact k2 b (by omega)
  · have := z2 b o e
    rw [pw_up_ne (by omega)]
    exact z3 b o e
theorem cx.refl (k : wf E w) : cx E w w F c := ⟨Nat.le_refl _, k, fun _ _ e _ => e, Nat.le_add_right _ _⟩
theorem cx.ok (k : cx E w w' F c) : wf E w' := k.2.1
theorem cx.le1 (k : cx E w w' F c) : w.2.1 ≤ w'.2.1 := k.1
theorem cx.trans (k : cx E w w1 F c) (k' : cx E w1 w2 G c') (hG : ∀ (a : Nat) (o : pw_O), w.1 a = some o → G a → F a) : cx E w w2 F (c + c') :=
  ⟨Nat.le_trans k.1 k'.1, k'.2.1, fun a o ha hF => k'.2.2.1 a o (k.2.2.1 a o ha hF) (fun hg => hF (hG a o ha hg)), by have := k.2.2.2; have := k'.2.2.2; omega⟩
theorem cx.tr (k : cx E w w1 F c) (k' : cx E w1 w2 F c') : cx E w w2 F (c + c') := k.trans k' (fun _ _ _ e => e)
theorem cx.mono (k : cx E w w' F c) (hF : ∀ (a : Nat) (o : pw_O), w.1 a = some o → F a → G a) (hc : c ≤ c') : cx E w w' G c' :=
  ⟨k.1, k.2.1, fun a o ha hg => k.2.2.1 a o ha (fun hf => hg (hF a o ha hf)), by have := k.2.2.2; omega⟩
theorem cx.le (k : cx E w w' F c) (hc : c ≤ c') : cx E w w' F c' := k.mono (fun _ _ _ e => e) hc
theorem cx.no (k : cx E w w' c_no c) : cx E w w' F c := k.mono (fun _ _ _ e => e.elim) (Nat.le_refl _)
theorem cx.new (k : wf E w) (o : pw_O) (n : Nat) : cx E w (pw_new w o n) F (n + 4) := by
  refine ⟨Nat.le_succ _, k.new o n, fun a o' ha _ => ?_, ?_⟩
  · have := k.lt ha
    rw [pw_new_ne (by omega)]
    exact ha
  · show 4 * (w.2.1 + 1) + (w.2.2 + n) ≤ _
    omega
theorem cx.up (k : wf E w) {a : Nat} (o : pw_O) {o0 : pw_O} (ha : w.1 a = some o0) (hb : pw_base E ≤ a) (hF : F a) : cx E w (pw_up w a o) F 0 := by
  refine ⟨Nat.le_refl _, k.up o hb (k.lt ha), fun b o' e hf => ?_, Nat.le_refl _⟩
  rw [pw_up_ne (fun e => by rw [e] at hf; exact hf hF)]
  exact e
theorem cx.keep (k : cx E w w' F c) {a : Nat} {o : pw_O} (ha : w.1 a = some o) (hF : ¬ F a) : w'.1 a = some o := k.2.2.1 a o ha hF
theorem cx.at (k : cx E w w' c_no c) {a : Nat} {o : pw_O} (ha : w.1 a = some o) : w'.1 a = some o := k.2.2.1 a o ha (fun e => e)
theorem cx.sub (k : cx E w w' F c) (z : c_sub p w.1) (hF : ∀ (a : Nat) (o : pw_O), p a = some o → ¬ F a) : c_sub p w'.1 := fun a o e => k.2.2.1 a o (z a o e) (hF a o e)
theorem cx.sub0 (k : cx E w w' c_no c) (z : c_sub p w.1) : c_sub p w'.1 := k.sub z (fun _ _ _ e => e)
theorem cx.sub1 (k : cx E w w' c_no c) : c_sub w.1 w'.1 := k.sub0 (c_sub.refl _)
theorem cx.tn (k : wf E w) (h : cx E w w1 F c) (h' : cx E w1 w2 G c') (hG : ∀ a : Nat, G a → F a ∨ w.2.1 ≤ a) : cx E w w2 F (c + c') :=
  h.trans h' (fun a o ha hg => (hG a hg).elim id (fun q => absurd (k.lt ha) (by omega)))
/-- what was made since is nobody's -/
theorem cx.old (k : wf E w) (h : cx E w w' (fun a => w.2.1 ≤ a) c) : cx E w w' F c := h.mono (fun a o e f => absurd (k.lt e) (by have f : w.2.1 ≤ a := f; omega)) (Nat.le_refl _)
end
