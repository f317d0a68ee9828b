set_option maxRecDepth 100000
/-! a method from its entry -/
def pw_ent (i : Nat) (av : List Value) (L : List (Option Value)) : Prop := (lg_sl av).length ≤ L.length ∧ ∀ (j : Nat) (v : Value), L[j]? = some (some v) → (i + j, v) ∈ lv_args i av
theorem pw_e0 {i n : Nat} : pw_ent i [] (List.replicate n none) := by
  refine ⟨Nat.zero_le _, fun j v h => ?_⟩
  have := List.eq_of_mem_replicate (List.mem_of_getElem? h)
  cases this
theorem pw_e1 {i : Nat} {v : Value} {vs : List Value} {L : List (Option Value)} (hc : v.category = 1) (h : pw_ent (i + 1) vs L) : pw_ent i (v :: vs) (some v :: L) := by
  have hc2 : ¬ v.category = 2 := by omega
  refine ⟨?_, fun j u hu => ?_⟩
  · have := h.1
    simp only [lg_sl, List.flatMap_cons, List.length_append, List.length_cons] at this ⊢
    simp only [hc2, if_false, List.length_cons, List.length_nil]
    omega
  · simp only [lv_args, hc2, if_false]
    cases j with
    | zero => cases hu; exact List.mem_cons_self
    | succ j =>
      have := h.2 j u (by simpa using hu)
      rw [show i + 1 + j = i + (j + 1) by omega] at this
      exact List.mem_cons_of_mem _ this
theorem pw_e2 {i : Nat} {v : Value} {vs : List Value} {L : List (Option Value)} (hc : v.category = 2) (h : pw_ent (i + 2) vs L) : pw_ent i (v :: vs) (some v :: none :: L) := by
  refine ⟨?_, fun j u hu => ?_⟩
  · have := h.1
    simp only [lg_sl, List.flatMap_cons, List.length_append, List.length_cons] at this ⊢
    simp only [hc, if_true, List.length_cons, List.length_nil]
    omega
  · simp only [lv_args, hc, if_true]
    match j, hu with
    | 0, hu => cases hu; exact List.mem_cons_self
    | 1, hu => cases hu
    | j + 2, hu =>
      have := h.2 j u (by simpa using hu)
      rw [show i + 2 + j = i + (j + 2) by omega] at this
      exact List.mem_cons_of_mem _ this
/-- called so, a method comes to an end of Post -/
def pw_Cl (E : pw_E) (M : pw_M) (d : Nat) (av : List Value) (w : pw_W) (Post : pw_R → pw_W → Prop) : Prop := ∃ (r : pw_R) (w' : pw_W), Post r w' ∧ pw_Ev E M d av w r w'
theorem pw_Cl.mono {E : pw_E} {M : pw_M} {d : Nat} {av : List Value} {w : pw_W} {P Q : pw_R → pw_W → Prop} (k : pw_Cl E M d av w P) (h : ∀ r w', P r w' → Q r w') : pw_Cl E M d av w Q := by
  obtain ⟨r, w', h1, h2⟩ := k
  exact ⟨r, w', h r w' h1, h2⟩
theorem pw_meth {E : pw_E} {M : pw_M} {d : Nat} {av : List Value} {L : List (Option Value)} {w : pw_W} {Post : pw_R → pw_W → Prop} (hy : plainName M.1.cls = true) (hn : L.length = M.2.2.1) (hL : pw_ent 0 av L) (k : pw_Wp E M d 0 L [] w Post) : pw_Cl E M d av w Post := by
  obtain ⟨r, w', hp, h1, h2, h3⟩ := k
  refine ⟨r, w', hp, h1, h2, ?_⟩
  have main : ∀ (p : Program) (e : Env) (s : State) (m : MethodId) (args : Array Value) (below : List Frame) (meth : Method) (c : Code) (s₁ : State), BodyLoose p E.1 M.1 (headSpec (pw_ws M) (pw_rm d w w')) M.2.1 M.2.2.1 M.2.2.2.1 e s m args below meth c s₁ → c.maxLocals = M.2.2.1 → c.exceptionTable.toList = tableOf M.2.2.2.2 → pw_Pc E av w args s →
      W p E.1 e (headSpec (pw_ws M) (pw_rm d w w')).room s m args below meth c s.heap [] 0 0 (px_MQ below (pw_Qc E r w') (pw_XC E r w') args s (w'.2.1 - w.2.1) (w'.2.2 - w.2.2) (pw_fr E)) (entryFrame m args M.2.2.1) := by
    intro p e s m args below meth c s₁ B hml htb hP
    obtain ⟨rfl, hO, hH⟩ := hP
    have hts := atoms_spec (ws := pw_ws M) B.pre
    have hts : ∀ w ∈ lw_all, w.before _ s = true := fun w h => hts w (List.mem_cons_of_mem _ h)
    have hl := lv_entry av (n := M.2.2.1) (by rw [← hn]; exact hL.1)
    rw [lg_entry_eq]
    have := h3 p e (pw_rm d w w') s m av.toArray below meth c s.heap [] 0 0 _ ⟨B.exec, B.bytes, B.returns, B.notSynchronized, hml, findClass_of_methodNamed B.named, ⟨(name_of_methodNamed B.named B.method).1, B.named⟩, hts, hO, htb⟩ (Nat.le_refl d) (Nat.le_refl _) (by rw [Nat.zero_add]; exact Nat.le_refl _) (by rw [Nat.zero_add]; exact Nat.le_refl _) hH (fun q h => by cases h) ⟨hl.1, hl.2.1, fun i v h => hl.2.2 (i, v) (by have := hL.2 i v h; rwa [Nat.zero_add] at this)⟩
    rw [Nat.zero_add, Nat.zero_add] at this
    exact this
  obtain ⟨y, b, mL, rt, hh⟩ := M
  cases hh with
  | nil => exact px_ofW (cc := b) (maxL := mL) (ret := rt) hy rfl (fun p e s m args below meth c s₁ B hml ht hP => main p e s m args below meth c s₁ B hml (List.eq_nil_iff_forall_not_mem.mpr ht) hP)
  | cons q t => exact px_ofWH (cc := b) (maxL := mL) (ret := rt) (hh := q :: t) hy rfl (fun p e s m args below meth c s₁ B hml hP => main p e s m args below meth c s₁ B hml (px_table (x := y) B (atoms_spec (ws := pw_ws (y, b, mL, rt, q :: t)) B.pre _ List.mem_cons_self)) hP)
/-- thrown, caught nowhere in the method: it goes on to the caller -/
theorem r_out {E : pw_E} {M : pw_M} {d pc : Nat} {q : Addr} {L : List (Option Value)} {w : pw_W} {Post : pw_R → pw_W → Prop} (hh : M.2.2.2.2 = []) {us : List Value} (hq : w.1 q = some (5, us)) (hb : pw_base E ≤ q) (hp : Post (.inr q) w) : pw_Wx E M d q pc L w Post := by
  refine ⟨.inr q, w, hp, fun st => ⟨Nat.le_refl _, Nat.le_refl _, ?_⟩⟩
  intro p e R s m args below meth c H locs cells slots ls hC hf hl hc hs hH hql hL
  obtain ⟨hx, hb1, hr, hlocks, hml, hown, -, hts, hO, htb⟩ := hC
  obtain ⟨cell, q1, q2, q3, q4⟩ := hH.2.2.2 q _ hq
  have hat := (hO.1 5 _ rfl).2
  exact px_out (E := "VersionSearch$Fault") (by rw [htb, hh]; intro x hx; cases hx) hlocks q1 (q3.own hb) (by rw [q2]; exact hat.1) (fun t ht _ => ⟨rfl, rfl, by rw [ht]; exact hH⟩) hql (by omega) (by omega)
