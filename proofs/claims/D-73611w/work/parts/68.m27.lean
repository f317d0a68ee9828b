set_option maxRecDepth 100000
/-! the twin: a version is made -/
def g_words (A : Nat → Int) (d : Int) : List Int → Nat → Int
  | [] => A
  | w :: ws => g_words (g_add (g_new A d w) d (A 5)) d ws
def g_mvF (d old r1 r2 : Int) : Nat → Int → Nat → (Nat → Int) → Nat → Int
  | 0, _, _, A => A
  | f + 1, i, p, A => if (p : Int) = r2 then g_mvF d old r1 r2 f (if i = r1 then i + 1 else i + 0) (p + 1) (g_add A d (A (Int.toNat (86 + 20 * old + r1)))) else g_mvF d old r1 r2 f ((if i = r1 then i + 1 else i + 0) + 1) (p + 1) (g_add A d (A (Int.toNat (86 + 20 * old + (if i = r1 then i + 1 else i + 0)))))
def g_ins1 (c d r1 : Int) (ws : List Int) (p : Int) (A : Nat → Int) : Nat → Int := if c = 0 ∧ p = r1 then g_words A d ws else A
def g_old1 (c d old len r1 r2 p : Int) (A : Nat → Int) : Nat → Int := if (c = 1 ∧ r1 ≤ p ∧ p ≤ r1 + r2 - 1) ∨ len ≤ p then A else g_add A d (A (Int.toNat (86 + 20 * old + p)))
def g_of (A : Nat → Int) (c r0 r1 : Int) : Int := if c = 3 then 10 * r0 + r1 else g_last A r0
def g_makeF (c d old len r1 r2 : Int) (ws : List Int) : Nat → Nat → (Nat → Int) → Nat → Int
  | 0, _, A => A
  | f + 1, p, A => g_makeF c d old len r1 r2 ws f (p + 1) (g_old1 c d old len r1 r2 p (g_ins1 c d r1 ws p A))
def g_make (A : Nat → Int) (c r0 r1 r2 : Int) (ws : List Int) (date : Int) : Nat → Int :=
  if c = 2 then g_mvF r0 (g_of A c r0 r1) r1 r2 (A (Int.toNat (46 + g_of A c r0 r1))).toNat 0 0 (g_begin A r0 date)
  else g_makeF c r0 (g_of A c r0 r1) (A (Int.toNat (46 + g_of A c r0 r1))) r1 r2 ws ((A (Int.toNat (46 + g_of A c r0 r1))).toNat + 1) 0 (g_begin A r0 date)
def g_makes (A : Nat → Int) (c r0 r1 r2 : Int) (ws : List Int) (date : Int) : Nat → Int := if 10 ≤ a_many A r0 then A else if g_there A c r0 r1 r2 = true then (if c = 0 then (if 20 ≤ A (Int.toNat (46 + g_last A r0)) then A else g_make A c r0 r1 r2 ws date) else g_make A c r0 r1 r2 ws date) else A
/-- what the loops keep -/
def g_inv (A : Nat → Int) (d k : Int) : Prop := g_ok A ∧ a_many A d = k
theorem g_inv.add {A : Nat → Int} {d k t : Int} (h : g_inv A d k) (hd : 0 ≤ d ∧ d < 4) (hk : 1 ≤ k) : g_inv (g_add A d t) d k := ⟨g_add_ok h.1 hd (by rw [h.2]; exact hk), by rw [g_add_many h.1 hd (by rw [h.2]; exact hk) hd.2]; exact h.2⟩
theorem g_inv.new {A : Nat → Int} {d k w : Int} (h : g_inv A d k) (hd : 0 ≤ d ∧ d < 4) : g_inv (g_new A d w) d k := ⟨g_new_ok h.1 d w, by rw [g_new_many h.1 hd.2]; exact h.2⟩
theorem g_inv.words {d k : Int} (hd : 0 ≤ d ∧ d < 4) (hk : 1 ≤ k) : ∀ (ws : List Int) {A : Nat → Int}, g_inv A d k → g_inv (g_words A d ws) d k
  | [], _, h => h
  | _ :: ws, _, h => g_inv.words hd hk ws ((h.new hd).add hd hk)
theorem g_inv.ins1 {A : Nat → Int} {c d k r1 p : Int} {ws : List Int} (h : g_inv A d k) (hd : 0 ≤ d ∧ d < 4) (hk : 1 ≤ k) : g_inv (g_ins1 c d r1 ws p A) d k := by
  unfold g_ins1
  split
  · exact g_inv.words hd hk ws h
  · exact h
theorem g_inv.old1 {A : Nat → Int} {c d k old len r1 r2 p : Int} (h : g_inv A d k) (hd : 0 ≤ d ∧ d < 4) (hk : 1 ≤ k) : g_inv (g_old1 c d old len r1 r2 p A) d k := by
  unfold g_old1
  split
  · exact h
  · exact h.add hd hk
section
variable {E : pw_E} {w0 : pw_W} {m d : Nat} {S : tw_S}
theorem m_moves_ok {a old len r1 r2 k : Int} {A : Nat → Int} {K : tw_S → Prop} (hm : pw_base E ≤ m) (hA : g_inv A a k) (hk : 1 ≤ k) (hd : 4 ≤ d) (ha : 0 ≤ a ∧ a < 4) (ho : 0 ≤ old ∧ old < 40) (hl : 0 ≤ len ∧ len ≤ 20) (e1 : S.2.2 10 1 = r1) (e2 : S.2.2 10 2 = r2) (h1 : 0 ≤ r1 ∧ r1 ≤ 20) (h2 : -1 ≤ r2 ∧ r2 ≤ 1000) (H : K (tw_set S 9 (g_mvF a old r1 r2 len.toNat 0 0 A))) : pw_Cl E m_X2_moves d [va_rf (some m), .int (iI a), .int (iI old), .int (iI len)] (tw w0 m (tw_set S 9 A)) (c_v (t_u w0 m K)) := by
  obtain ⟨e, rfl, he⟩ := pw_d1 hd
  have e1 : ∀ A, (tw_set S 9 A).2.2 10 1 = r1 := fun _ => e1
  have e2 : ∀ A, (tw_set S 9 A).2.2 10 2 = r2 := fun _ => e2
  have loop : ∀ (f p : Nat) (i : Int) (A : Nat → Int), (p : Int) + f = len → g_inv A a k → 0 ≤ i ∧ i ≤ 2 * p → K (tw_set S 9 (g_mvF a old r1 r2 f i p A)) → pw_Wp E m_X2_moves (e + 1) 6 [some (va_rf (some m)), some (.int (iI a)), some (.int (iI old)), some (.int (iI len)), some (.int (iI i)), some (.int (iI p))] [] (tw w0 m (tw_set S 9 A)) (c_v (t_u w0 m K)) := by
    intro f
    induction f with
    | zero =>
      intro p i A hp hA hi H
      refine t_X2_moves_6 hm _ _ _ _ _ ⟨rI_small (by omega) (by omega), rI_small (by omega) (by omega), ifT (by omega) ⟨rfl, _, rfl, H⟩⟩
    | succ f ih =>
      intro p i A hp hA hi H
      have hm1 : 1 ≤ a_many A a := by rw [hA.2]; exact hk
      refine t_X2_moves_6 hm _ _ _ _ _ ⟨rI_small (by omega) (by omega), rI_small (by omega) (by omega), ifF (by omega) ⟨rI_small (by omega) (by omega), ?_, ?_⟩⟩
      · rw [e1]; exact rI_small (by omega) (by omega)
      rw [e1, e2, tw_set_at]
      unfold g_mvF at H
      have hr2 : rI r2 := rI_small (by omega) (by omega)
      by_cases h9 : i = r1
      · rw [if_pos h9] at H
        refine ifT h9 ⟨rI_small (by omega) (by omega), hr2, ifS (K := fun B => K (tw_set S 9 B)) H (fun h H => ⟨by omega, by omega, ?_⟩) (fun h H => ⟨by omega, by omega, ?_⟩)⟩
        · exact m_addWord_ok hm hA.1 (by omega) ha hm1 (ih (p + 1) _ _ (by omega) (hA.add ha hk) ⟨by omega, by omega⟩ H)
        · exact m_addWord_ok hm hA.1 (by omega) ha hm1 (ih (p + 1) _ _ (by omega) (hA.add ha hk) ⟨by omega, by omega⟩ H)
      · rw [if_neg h9] at H
        refine ifF h9 ⟨rI_small (by omega) (by omega), hr2, ifS (K := fun B => K (tw_set S 9 B)) H (fun h H => ⟨by omega, by omega, ?_⟩) (fun h H => ⟨by omega, by omega, ?_⟩)⟩
        · exact m_addWord_ok hm hA.1 (by omega) ha hm1 (ih (p + 1) _ _ (by omega) (hA.add ha hk) ⟨by omega, by omega⟩ H)
        · exact m_addWord_ok hm hA.1 (by omega) ha hm1 (ih (p + 1) _ _ (by omega) (hA.add ha hk) ⟨by omega, by omega⟩ H)
  exact e_X2_moves _ _ _ _ (t_X2_moves_0 hm _ _ _ (loop len.toNat 0 0 A (by omega) hA ⟨by omega, by omega⟩ H))
theorem m_mkWords {Q : pw_R → pw_W → Prop} {c a old len p r1 k : Int} {ws : List Int} (hm : pw_base E ≤ m) (hd : 3 ≤ d) (ha : 0 ≤ a ∧ a < 4) (hk : 1 ≤ k) (hc : rI c) (hp : rI p) (h1 : rI r1) (e1 : S.2.2 10 1 = r1) (e21 : S.1 21 = ws.length) (hn : ws.length ≤ 300) (hw : ∀ (i : Nat) (x : Int), ws[i]? = some x → S.2.2 11 i = x) : ∀ (f i : Nat) (A : Nat → Int), i + f = ws.length → g_inv A a k → pw_Wp E m_X2_makeVersion (d + 1) 121 [some (va_rf (some m)), some (.int (iI c)), some (.int (iI a)), some (.int (iI old)), some (.int (iI len)), some (.int (iI p)), none] [] (tw w0 m (tw_set S 9 (if c = 0 ∧ p = r1 then g_words A a (ws.drop i) else A))) Q → pw_Wp E m_X2_makeVersion (d + 1) 74 [some (va_rf (some m)), some (.int (iI c)), some (.int (iI a)), some (.int (iI old)), some (.int (iI len)), some (.int (iI p)), some (.int (iI i))] [] (tw w0 m (tw_set S 9 A)) Q := by
  intro f
  have e1 : ∀ A, (tw_set S 9 A).2.2 10 1 = r1 := fun _ => e1
  have e21 : ∀ A, (tw_set S 9 A).1 21 = ws.length := fun _ => e21
  have hw : ∀ A (i : Nat) (x : Int), ws[i]? = some x → (tw_set S 9 A).2.2 11 i = x := fun _ => hw
  induction f with
  | zero =>
    intro i A hi hA H
    refine t_X2_makeVersion_74 hm _ _ _ _ _ _ ?_
    rw [e21]
    refine ⟨rI_small (by omega) (by omega), rI_small (by omega) (by omega), ifT (by omega) ?_⟩
    have : ws.drop i = [] := List.drop_eq_nil_of_le (by omega)
    rw [this] at H
    have e : (if c = 0 ∧ p = r1 then g_words A a [] else A) = A := by split <;> rfl
    rw [e] at H
    exact H
  | succ f ih =>
    intro i A hi hA H
    refine t_X2_makeVersion_74 hm _ _ _ _ _ _ ?_
    rw [e21]
    refine ⟨rI_small (by omega) (by omega), rI_small (by omega) (by omega), ifF (by omega) ⟨hc, ?_⟩⟩
    by_cases hc0 : c = 0
    · refine ifT hc0 ⟨hp, ?_⟩
      rw [e1]
      refine ⟨h1, ?_⟩
      by_cases hpr : p = r1
      · refine ifT hpr ⟨by omega, by omega, ?_⟩
        rw [if_pos ⟨hc0, hpr⟩] at H
        have hx : ws[i]? = some ws[i] := List.getElem?_eq_getElem (by omega)
        have e2 : Int.toNat (i : Int) = i := by omega
        rw [e2, hw A i _ hx]
        have hd2 : ws.drop i = ws[i] :: ws.drop (i + 1) := List.drop_eq_getElem_cons (by omega)
        rw [hd2] at H
        refine m_newToken_ok hm hA.1 (by omega) (m_addWord_ok hm (hA.new ha).1 (by omega) ha (by rw [(hA.new ha).2]; exact hk) (ih (i + 1) _ (by omega) ((hA.new ha).add ha hk) ?_))
        rw [if_pos ⟨hc0, hpr⟩]
        exact H
      · refine ifF hpr ?_
        rw [if_neg (fun h => hpr h.2)] at H
        exact H
    · refine ifF hc0 ?_
      rw [if_neg (fun h => hc0 h.1)] at H
      exact H
theorem m_makeVersion_ok {c r0 r1 r2 : Int} {ws : List Int} {A : Nat → Int} {K : tw_S → Prop} (hm : pw_base E ≤ m) (hA : g_ok A) (hd : 5 ≤ d) (hc : 0 ≤ c ∧ c ≤ 3) (e0 : S.2.2 10 0 = r0) (e1 : S.2.2 10 1 = r1) (e2 : c = 1 ∨ c = 2 → S.2.2 10 2 = r2) (e21 : c = 0 → S.1 21 = ws.length) (h21 : 0 ≤ S.1 21 ∧ S.1 21 ≤ 300) (hn : c = 0 → ws.length ≤ 300) (hw : c = 0 → ∀ (i : Nat) (x : Int), ws[i]? = some x → S.2.2 11 i = x) (ha : 0 ≤ r0 ∧ r0 < 4) (hmany : 1 ≤ a_many A r0 ∧ a_many A r0 ≤ 9) (h1 : 0 ≤ r1 ∧ r1 ≤ 20) (h3 : c = 3 → r1 < 10) (h2 : c = 1 ∨ c = 2 → -1 ≤ r2 ∧ r2 ≤ 1000) (H : K (tw_set S 9 (g_make A c r0 r1 r2 ws (S.1 23)))) : pw_Cl E m_X2_makeVersion d [va_rf (some m), .int (iI c)] (tw w0 m (tw_set S 9 A)) (c_v (t_u w0 m K)) := by
  obtain ⟨e, rfl, he⟩ := pw_d1 hd
  have hcr : rI c := rI_small (by omega) (by omega)
  have hr1 : rI r1 := rI_small (by omega) (by omega)
  have E0 : ∀ A, (tw_set S 9 A).2.2 10 0 = r0 := fun _ => e0
  have E1 : ∀ A, (tw_set S 9 A).2.2 10 1 = r1 := fun _ => e1
  have E2 : c = 1 ∨ c = 2 → ∀ A, (tw_set S 9 A).2.2 10 2 = r2 := fun h _ => e2 h
  have hB : g_inv (g_begin A r0 (S.1 23)) r0 (a_many A r0 + 1) := ⟨g_begin_ok hA ha hmany.2, by rw [g_begin_many hA ha hmany.2 ha, if_pos rfl]⟩
  have hk : 1 ≤ a_many A r0 + 1 := by omega
  -- the loop over the old places
  have loop : ∀ (old len : Int), 0 ≤ old ∧ old < 40 → len ≤ 20 → ¬ c = 2 → ∀ (f p : Nat) (A' : Nat → Int), (p : Int) + f = len + 1 → g_inv A' r0 (a_many A r0 + 1) → K (tw_set S 9 (g_makeF c r0 old len r1 r2 ws f p A')) → pw_Wp E m_X2_makeVersion (e + 1) 64 [some (va_rf (some m)), some (.int (iI c)), some (.int (iI r0)), some (.int (iI old)), some (.int (iI len)), some (.int (iI p)), none] [] (tw w0 m (tw_set S 9 A')) (c_v (t_u w0 m K)) := by
    intro old len ho hl hc2 f
    induction f with
    | zero =>
      intro p A' hp hA' H
      exact t_X2_makeVersion_64 hm _ _ _ _ _ ⟨rI_small (by omega) (by omega), rI_small (by omega) (by omega), ifT (by omega) ⟨rfl, _, rfl, H⟩⟩
    | succ f ih =>
      intro p A' hp hA' H
      have hpr : rI (p : Int) := rI_small (by omega) (by omega)
      have hlr : rI len := rI_small (by omega) (by omega)
      refine t_X2_makeVersion_64 hm _ _ _ _ _ ⟨hlr, hpr, ifF (by omega) ?_⟩
      have hI : g_inv (g_ins1 c r0 r1 ws p A') r0 (a_many A r0 + 1) := hA'.ins1 ha hk
      have H : K (tw_set S 9 (g_makeF c r0 old len r1 r2 ws f (p + 1) (g_old1 c r0 old len r1 r2 p (g_ins1 c r0 r1 ws p A')))) := H
      have back : pw_Wp E m_X2_makeVersion (e + 1) 121 [some (va_rf (some m)), some (.int (iI c)), some (.int (iI r0)), some (.int (iI old)), some (.int (iI len)), some (.int (iI p)), none] [] (tw w0 m (tw_set S 9 (g_ins1 c r0 r1 ws p A'))) (c_v (t_u w0 m K)) := by
        refine t_X2_makeVersion_121 hm _ _ _ _ _ ⟨hcr, ?_⟩
        generalize g_ins1 c r0 r1 ws p A' = C at *
        have hm1 : 1 ≤ a_many C r0 := by rw [hI.2]; exact hk
        by_cases hc1 : c = 1
        · refine ifT hc1 ?_
          rw [E1, E2 (Or.inl hc1)]
          have := h2 (Or.inl hc1)
          refine m_in_ok hm (by omega) hpr hr1 (rI_small (by omega) (by omega)) ?_
          by_cases hin : r1 ≤ (p : Int) ∧ (p : Int) ≤ r1 + r2 - 1
          · rw [decide_eq_true hin, if_pos rfl]
            have e9 : g_old1 c r0 old len r1 r2 p C = C := by unfold g_old1; rw [if_pos (Or.inl ⟨hc1, hin⟩)]
            rw [e9] at H
            refine ⟨hlr, hpr, ?_⟩
            have := ih (p + 1) _ (by omega) hI H
            split <;> exact this
          · rw [decide_eq_false hin, if_neg (by decide)]
            refine ⟨hlr, hpr, ?_⟩
            by_cases hle : len ≤ (p : Int)
            · have e9 : g_old1 c r0 old len r1 r2 p C = C := by unfold g_old1; rw [if_pos (Or.inr hle)]
              rw [e9] at H
              exact ifT hle (ih (p + 1) _ (by omega) hI H)
            · have e9 : g_old1 c r0 old len r1 r2 p C = g_add C r0 (C (Int.toNat (86 + 20 * old + p))) := by unfold g_old1; rw [if_neg (by rintro (h | h); exact hin h.2; exact hle h)]
              rw [e9] at H
              refine ifF hle ⟨by omega, by omega, ?_⟩
              rw [tw_set_at]
              exact m_addWord_ok hm hI.1 (by omega) ha hm1 (ih (p + 1) _ (by omega) (hI.add ha hk) H)
        · refine ifF hc1 ⟨hlr, hpr, ?_⟩
          by_cases hle : len ≤ (p : Int)
          · have e9 : g_old1 c r0 old len r1 r2 p C = C := by unfold g_old1; rw [if_pos (Or.inr hle)]
            rw [e9] at H
            exact ifT hle (ih (p + 1) _ (by omega) hI H)
          · have e9 : g_old1 c r0 old len r1 r2 p C = g_add C r0 (C (Int.toNat (86 + 20 * old + p))) := by unfold g_old1; rw [if_neg (by rintro (h | h); exact hc1 h.1; exact hle h)]
            rw [e9] at H
            refine ifF hle ⟨by omega, by omega, ?_⟩
            rw [tw_set_at]
            exact m_addWord_ok hm hI.1 (by omega) ha hm1 (ih (p + 1) _ (by omega) (hI.add ha hk) H)
      by_cases hc0 : c = 0
      · refine m_mkWords (ws := ws) (r1 := r1) (k := a_many A r0 + 1) hm (by omega) ha hk hcr hpr hr1 e1 (e21 hc0) (hn hc0) (hw hc0) ws.length 0 A' (by omega) hA' ?_
        rw [List.drop_zero]
        exact back
      · have e9 : g_ins1 c r0 r1 ws p A' = A' := by unfold g_ins1; rw [if_neg (fun h => hc0 h.1)]
        rw [e9] at back
        have e21' : (tw_set S 9 A').1 21 = S.1 21 := rfl
        refine t_X2_makeVersion_74 hm _ _ _ _ _ _ ?_
        rw [e21']
        refine ⟨rI_small (by omega) (by omega), rI_small (by omega) (by omega), ?_⟩
        by_cases h0 : S.1 21 ≤ 0
        · exact ifT h0 back
        · exact ifF h0 ⟨hcr, ifF hc0 back⟩
  have tail : ∀ old : Int, old = g_of A c r0 r1 → 0 ≤ old ∧ old < 40 → (rI c ∧ if c = 2 then pw_Cl E m_X2_moves e [va_rf (some m), .int (iI r0), .int (iI old), .int (iI (A (Int.toNat (46 + old))))] (tw w0 m (tw_set S 9 (g_begin A r0 (S.1 23)))) (c_v (t_u w0 m K)) else pw_Wp E m_X2_makeVersion (e + 1) 64 [some (va_rf (some m)), some (.int (iI c)), some (.int (iI r0)), some (.int (iI old)), some (.int (iI (A (Int.toNat (46 + old))))), some (.int (iI 0)), none] [] (tw w0 m (tw_set S 9 (g_begin A r0 (S.1 23)))) (c_v (t_u w0 m K))) := by
    intro old hold ho
    have hl := hA.2.2 old ho.1 ho.2
    unfold g_make at H
    rw [← hold] at H
    refine ⟨hcr, ifS (K := fun B => K (tw_set S 9 B)) H (fun h H => ?_) (fun h H => ?_)⟩
    · exact m_moves_ok hm hB hk (by omega) ha ho hl e1 (e2 (Or.inr h)) ⟨h1.1, by omega⟩ (h2 (Or.inr h)) H
    · exact loop old _ ho hl.2 h _ 0 _ (by omega) hB H
  refine e_X2_makeVersion _ _ (t_X2_makeVersion_0 hm _ ⟨hcr, ?_⟩)
  rw [E0, E1]
  by_cases hc3 : c = 3
  · refine ifT hc3 (m_at_ok hm (by omega) ?_)
    have ho : 0 ≤ 10 * r0 + r1 ∧ 10 * r0 + r1 < 40 := by have := h3 hc3; omega
    refine ⟨by omega, by omega, ?_⟩
    refine m_beginVersion_ok hm hA (by omega) ha hmany.2 ?_
    rw [tw_set_at]
    obtain ⟨t1, t2⟩ := tail (10 * r0 + r1) (by unfold g_of; rw [if_pos hc3]) ho
    have hc2 : ¬ c = 2 := by omega
    rw [if_neg hc2] at t2
    exact ⟨t1, ifF hc2 t2⟩
  · refine ifF hc3 (m_latest_ok hm (by omega) ha ?_)
    rw [tw_set_at]
    have ho := hA.last ha hmany.1
    refine ⟨by omega, by omega, ?_⟩
    refine m_beginVersion_ok hm hA (by omega) ha hmany.2 ?_
    obtain ⟨t1, t2⟩ := tail (g_last A r0) (by unfold g_of; rw [if_neg hc3]) ⟨by omega, by omega⟩
    refine ⟨t1, ?_⟩
    by_cases hc2 : c = 2
    · rw [if_pos hc2] at t2
      refine ifT hc2 (pw_Cl.mono t2 ?_)
      rintro r w ⟨h1, S1, h2, h3⟩
      exact ⟨h1, S1, h2, rfl, S1, rfl, h3⟩
    · rw [if_neg hc2] at t2
      exact ifF hc2 t2
theorem m_makes_ok {c r0 r1 r2 : Int} {ws : List Int} {A : Nat → Int} {K : tw_S → Prop} (hm : pw_base E ≤ m) (hA : g_ok A) (hd : 6 ≤ d) (hc : 0 ≤ c ∧ c ≤ 3) (e0 : S.2.2 10 0 = r0) (e1 : S.2.2 10 1 = r1) (e2 : c = 1 ∨ c = 2 → S.2.2 10 2 = r2) (e21 : c = 0 → S.1 21 = ws.length) (h21 : 0 ≤ S.1 21 ∧ S.1 21 ≤ 300) (hn : c = 0 → ws.length ≤ 300) (hw : c = 0 → ∀ (i : Nat) (x : Int), ws[i]? = some x → S.2.2 11 i = x) (ha : 0 ≤ r0 ∧ r0 < 4) (hmany : 1 ≤ a_many A r0) (h1 : 0 ≤ r1 ∧ r1 ≤ 20) (h3 : c = 3 → r1 < 10) (h2 : c = 1 ∨ c = 2 → -1 ≤ r2 ∧ r2 ≤ 1000) (H : K (tw_set S 9 (g_makes A c r0 r1 r2 ws (S.1 23)))) : pw_Cl E m_X2_makes d [va_rf (some m), .int (iI c)] (tw w0 m (tw_set S 9 A)) (c_v (t_u w0 m K)) := by
  obtain ⟨e, rfl, he⟩ := pw_d1 hd
  have hm1 := hA.2.1 r0 ha.1 ha.2
  have hcr : rI c := rI_small (by omega) (by omega)
  have E0 : ∀ A, (tw_set S 9 A).2.2 10 0 = r0 := fun _ => e0
  have hl := hA.last ha hmany
  have hlr := hA.2.2 (g_last A r0) (by omega) (by omega)
  refine e_X2_makes _ _ (t_X2_makes_0 hm _ ?_)
  rw [E0]
  refine m_versions_ok hm (by omega) ha ?_
  rw [tw_set_at]
  unfold g_makes at H
  refine ⟨rI_small (by omega) (by omega), ifS (K := fun B => K (tw_set S 9 B)) H (fun h H => ⟨rfl, _, rfl, H⟩) (fun h H => ?_)⟩
  have hA' : g_ok ((tw_set S 9 A).2.2 9) := hA
  refine m_isThere_ok (r2 := r2) hm hA' (by omega) hcr e0 e1 e2 ha hmany ⟨by omega, by omega⟩ h2 ?_
  have make : ∀ H : K (tw_set S 9 (g_make A c r0 r1 r2 ws (S.1 23))), pw_Cl E m_X2_makeVersion e [va_rf (some m), .int (iI c)] (tw w0 m (tw_set S 9 A)) (c_v (t_u w0 m (fun S1 => c_v (t_u w0 m K) (.inl none) (tw w0 m S1)))) := fun H => m_makeVersion_ok hm hA (by omega) hc e0 e1 e2 e21 h21 hn hw ha ⟨hmany, by omega⟩ h1 h3 h2 ⟨rfl, _, rfl, H⟩
  refine ifS (K := fun B => K (tw_set S 9 B)) H (fun h H => ⟨hcr, ifS (K := fun B => K (tw_set S 9 B)) H (fun h9 H => ?_) (fun h9 H => make H)⟩) (fun h H => ⟨rfl, _, rfl, H⟩)
  rw [E0]
  refine m_versions_ok hm (by omega) ha ?_
  rw [tw_set_at]
  refine m_longOf_ok hm (by omega) ha ⟨by omega, by omega⟩ ?_
  rw [tw_set_at]
  have e9 : a_long A r0 (a_many A r0 - 1) = A (Int.toNat (46 + g_last A r0)) := rfl
  rw [e9]
  exact ⟨rI_small (by omega) (by omega), ifS (K := fun B => K (tw_set S 9 B)) H (fun h H => ⟨rfl, _, rfl, H⟩) (fun h H => make H)⟩
end
