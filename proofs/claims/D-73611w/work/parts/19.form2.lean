set_option maxRecDepth 100000
/-! forgetting locals; the rest of the printed formulas' words -/
def pw_le (L' L : List (Option Value)) : Prop := ∀ (i : Nat) (v : Value), L'[i]? = some (some v) → L[i]? = some (some v)
theorem le_0 {L : List (Option Value)} : pw_le [] L := fun i v h => by simp at h
theorem le_n {x : Option Value} {L' L : List (Option Value)} (h : pw_le L' L) : pw_le (none :: L') (x :: L) := fun i v q => match i, q with
  | 0, q => by simp at q
  | i + 1, q => by
    rw [List.getElem?_cons_succ] at q ⊢
    exact h i v q
theorem le_s {x : Option Value} {L' L : List (Option Value)} (h : pw_le L' L) : pw_le (x :: L') (x :: L) := fun i v q => match i, q with
  | 0, q => q
  | i + 1, q => by
    rw [List.getElem?_cons_succ] at q ⊢
    exact h i v q
theorem pw_weak {E : pw_E} {M : pw_M} {d pc : Nat} {L L' : List (Option Value)} {st : List Value} {w : pw_W} {Post : pw_R → pw_W → Prop} (h : pw_le L' L) (k : pw_Wp E M d pc L' st w Post) : pw_Wp E M d pc L st w Post := by
  obtain ⟨r, w', hp, h1, h2, h3⟩ := k
  exact ⟨r, w', hp, h1, h2, fun p e R s m args below meth c H locs cells slots ls hC hf hl hc hs hH hq hL => h3 p e R s m args below meth c H locs cells slots ls hC hf hl hc hs hH hq ⟨hL.1, hL.2.1, fun i v q => hL.2.2 i v (h i v q)⟩⟩
theorem f_by {c : Prop} [Decidable c] {A B G : Prop} (h : if c then A else B) (h1 : c → A → G) (h2 : ¬ c → B → G) : G := by
  by_cases hc : c
  · exact h1 hc (f_it h hc)
  · exact h2 hc (f_if h hc)
def f_sti (E : pw_E) (i : Nat) (K : Int32 → Prop) : Prop := ∃ x : Int32, E.2.2.2.2 i = .int x ∧ K x
def f_str (E : pw_E) (i : Nat) (K : Option Nat → Prop) : Prop := ∃ x : Option Nat, E.2.2.2.2 i = va_rf x ∧ K x
def f_isk (w : pw_W) (o : Option Nat) (nm : String) : Prop := ∃ (b k : Nat) (us : List Value) (r : vw_C), o = some b ∧ w.1 b = some (k, us) ∧ pw_cl[k]? = some r ∧ r.1 = nm
/-- a thrown object that leaves -/
def x_out (E : pw_E) (w : pw_W) (q : Nat) (Post : pw_R → pw_W → Prop) : Prop := ∃ us : List Value, w.1 q = some (5, us) ∧ pw_base E ≤ q ∧ Post (.inr q) w
theorem x_out_use {E : pw_E} {M : pw_M} {d pc : Nat} {q : Addr} {L : List (Option Value)} {w : pw_W} {Post : pw_R → pw_W → Prop} (hh : M.2.2.2.2 = []) (h : x_out E w q Post) : pw_Wx E M d q pc L w Post := by
  obtain ⟨us, h1, h2, h3⟩ := h
  exact r_out hh h1 h2 h3
theorem pw_nyt {y : MethodName} {n : Nat} (h : (!(y.cls == "java/lang/invoke/MethodHandle") && !(y.cls == "java/lang/invoke/VarHandle")) = true) (h2 : ((parseMethodDescriptor y.desc).map (fun d => d.parameters.length) == some n) = true) : pw_ny y n := by
  simp at h
  exact ⟨h, eq_of_beq h2⟩
