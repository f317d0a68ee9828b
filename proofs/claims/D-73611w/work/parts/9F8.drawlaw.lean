set_option maxRecDepth 100000
/-! the plain law of what is drawn -/
/-- which change is drawn of a document: sort, places, words; the seed behind -/
def dw (D : dc) (s : Int) : Option (Nat × Nat × Nat × List (List Int)) × Int :=
  if d_val s 6 = 5 then (some (3, (d_val (d_next s) D.1.length).toNat, 0, []), d_next (d_next s))
  else if d_val s 6 = 2 ∨ d_val s 6 = 3 then (match D.2.1 with
    | [] => (none, d_next s)
    | s0 :: _ => (if dc_last D = 20 ∨ D.1.length = 10 then none else some (0, (d_val (d_next s) ((dc_last D : Int) + 1)).toNat, 0, [s0]), d_next (d_next s)))
  else if dc_last D = 0 then (none, d_next s)
  else if d_val s 6 < 2 then (some (1, (d_val (d_next s) (dc_last D)).toNat, 1, []), d_next (d_next s))
  else (some (2, (d_val (d_next s) (dc_last D)).toNat, (d_val (d_next (d_next s)) (dc_last D)).toNat, []), d_next (d_next (d_next s)))
def dw_on (D : dc) (t : Int) (e : Option (Nat × Nat × Nat × List (List Int))) : dc := match e with
  | none => D
  | some (c, r1, r2, ss) => if D.1.length = 10 then D else ed_D D (ch_row c D r1 r2 ss.length) ss t
theorem set_same {α : Type} {l : List α} {i : Nat} {x : α} (h : l[i]? = some x) : l.set i x = l := by
  refine List.ext_getElem? (fun j => ?_)
  have := (List.getElem?_eq_some_iff.mp h).1
  by_cases e : i = j
  · subst e
    rw [List.getElem?_set_self this, h]
  · rw [List.getElem?_set_ne e]
section
variable {A : Nat → Int} {Ds : List dc} {g : Nat → Nat → Nat} {i : Nat} {D : dc} {t s date : Int}
theorem d_firstF_no {A : Nat → Int} {d : Int} : ∀ (f t : Nat), (∀ k : Nat, t ≤ k → k < t + f → a_whose A k ≠ d) → d_firstF A d f t = -1
  | 0, _, _ => rfl
  | f + 1, t, h => by
    unfold d_firstF
    rw [if_neg (h t (by omega) (by omega))]
    exact d_firstF_no f (t + 1) (fun k h1 h2 => h k (by omega) (by omega))
theorem d_firstF_at {A : Nat → Int} {d : Int} {m : Nat} (hm : a_whose A m = d) : ∀ (f t : Nat), t ≤ m → m < t + f → (∀ k : Nat, t ≤ k → k < m → a_whose A k ≠ d) → d_firstF A d f t = m
  | 0, _, _, _, _ => by omega
  | f + 1, t, h1, h2, h => by
    unfold d_firstF
    by_cases e : t = m
    · rw [e, if_pos hm]
    · rw [if_neg (h t (by omega) (by omega))]
      exact d_firstF_at hm f (t + 1) (by omega) (by omega) (fun k h3 h4 => h k (by omega) (by omega))
theorem rl_ok.first (h : rl_ok A Ds g) (hi : Ds[i]? = some D) : d_first A i = if D.2.1.length = 0 then (-1 : Int) else ((g i 0 : Nat) : Int) := by
  unfold d_first
  obtain ⟨n1, n2⟩ := h.n5
  have fwd : ∀ k : Nat, k < (A 5).toNat → a_whose A k = i → ∃ j, j < D.2.1.length ∧ k = g i j := by
    intro k hk hw
    obtain ⟨i', D', j, hi', hj', e⟩ := h.1.2.2 k (by omega)
    obtain ⟨s, hs⟩ := dc_get hj'
    have e2 := (h.tok hi' hs).2.1
    rw [← e, hw] at e2
    have e3 : i' = i := by omega
    subst e3
    rw [hi] at hi'
    cases hi'
    exact ⟨j, hj', e⟩
  by_cases z : D.2.1.length = 0
  · rw [if_pos z]
    refine d_firstF_no _ _ (fun k _ hk hw => ?_)
    obtain ⟨j, hj, -⟩ := fwd k (by omega) hw
    omega
  · rw [if_neg z]
    obtain ⟨s, hs⟩ := dc_get (l := D.2.1) (i := 0) (by omega)
    have tk := h.tok hi hs
    refine d_firstF_at tk.2.1 _ _ (by omega) (by omega) (fun k _ hk hw => ?_)
    obtain ⟨j, hj, e⟩ := fwd k (by omega) hw
    by_cases j0 : j = 0
    · rw [j0] at e; omega
    · have := (h.1.2.1 i D hi).2.2 0 j (by omega) hj
      omega
theorem rl_ok.toksOf (h : rl_ok A Ds g) (hi : Ds[i]? = some D) : d_toks A i = D.2.1.length := by
  unfold d_toks
  have e := h.enum (F := fun _ (n : Int) => n + 1) (x := 0) hi
  have e1 : upto (A 5).toNat (fun t n => if a_whose A t = i then n + 1 else n + 0) (0 : Int) = upto (A 5).toNat (fun t a => if a_whose A (t : Nat) = i then (fun _ (n : Int) => n + 1) t a else a) 0 := upto_cg _ (fun k a _ => by
    by_cases c : a_whose A (k : Nat) = i
    · rw [if_pos c, if_pos c]
    · rw [if_neg c, if_neg c, Int.add_zero])
  rw [e1, e]
  have := sm_c 1 D.2.1.length
  rw [Int.mul_one] at this
  exact this
theorem rl_ok.makes (h : rl_ok A Ds g) (hi : Ds[i]? = some D) {c r1 r2 : Nat} {ss : List (List Int)} (hc : ch_can c D r1 r2 ss.length) (h1 : c = 0 → ss.length = 1) (hn : A 5 + ss.length ≤ 319) (hss : ∀ s ∈ ss, (∀ c ∈ s, 97 ≤ c ∧ c ≤ 122) ∧ 1 ≤ s.length ∧ s.length ≤ 4) (ht : 0 ≤ t ∧ t ≤ 1000) (hdate : rI date) (hl1 : ss.length ≤ 1) :
    ∃ g', rl_ok (g_makes A c i r1 r2 (ss.map s_code) date) (Ds.set i (dw_on D t (some (c, r1, r2, ss)))) g' ∧ g_makes A c i r1 r2 (ss.map s_code) date 5 ≤ A 5 + 1 := by
  obtain ⟨x1, x2, x3, x4, x5, x6, x7, x8, x9⟩ := h.dat hi
  unfold g_makes dw_on
  by_cases z : D.1.length = 10
  · rw [if_pos (by rw [x5, z]; decide)]
    show ∃ g', rl_ok A (Ds.set i (if D.1.length = 10 then D else _)) g' ∧ _
    rw [if_pos z, set_same hi]
    exact ⟨g, h, by omega⟩
  · have hth : g_there A c i r1 r2 = true := (h.there hi hc.2.2.2.2.2).mpr ⟨fun e => (hc.1 e).1, hc.2.1, hc.2.2.1, hc.2.2.2.1⟩
    rw [if_neg (by rw [x5]; omega), if_pos hth]
    show ∃ g', rl_ok _ (Ds.set i (if D.1.length = 10 then D else ed_D D (ch_row c D r1 r2 ss.length) ss t)) g' ∧ _
    rw [if_neg z]
    obtain ⟨m1, -, m2⟩ := h.made (x := t) hi (by omega) hc hn hss ht hdate
    have e : (if (c : Int) = 0 then (if 20 ≤ A (Int.toNat (46 + g_last A i)) then A else g_make A c i r1 r2 (ss.map s_code) date) else g_make A c i r1 r2 (ss.map s_code) date) = g_make A c i r1 r2 (ss.map s_code) date := by
      by_cases c0 : (c : Int) = 0
      · have hl : A (Int.toNat (46 + g_last A i)) = dc_last D := h.last hi
        have := (hc.1 (by omega)).2
        have := h1 (by omega)
        rw [if_pos c0, if_neg (by rw [hl]; omega)]
      · rw [if_neg c0]
    rw [e]
    exact ⟨_, m1, by rw [m2]; omega⟩
theorem rl_ok.draw (h : rl_ok A Ds g) (h5 : A 5 ≤ 318) (hi : Ds[i]? = some D) (hs : d_doc A s = i) (ht : 0 ≤ t ∧ t ≤ 1000) (hdate : rI date) :
    (∃ g', rl_ok (d_chgA A s date) (Ds.set i (dw_on D t (dw D (d_next s)).1)) g' ∧ d_chgA A s date 5 ≤ A 5 + 1) ∧ d_chgS A s = (dw D (d_next s)).2 := by
  obtain ⟨x1, x2, x3, x4, x5, x6, x7, x8, x9⟩ := h.dat hi
  have hlast := h.last hi
  have same : ∃ g', rl_ok A (Ds.set i (dw_on D t none)) g' ∧ A 5 ≤ A 5 + 1 := by
    show ∃ g', rl_ok A (Ds.set i D) g' ∧ _
    rw [set_same hi]
    exact ⟨g, h, by omega⟩
  have h20 : dc_last D ≤ 20 := by
    obtain ⟨row, hr⟩ := dc_get (l := D.1) (i := D.1.length - 1) (by omega)
    have := h.rw1 hi hr
    unfold dc_last
    rw [this.2.2.2.2.1]
    exact this.2.1
  unfold d_chgA d_chgS dw d_what
  rw [hs]
  by_cases w5 : d_val (d_next s) 6 = 5
  · rw [if_pos w5, if_pos w5, if_pos w5]
    refine ⟨?_, rfl⟩
    have vr := d_val_r (s := d_next (d_next s)) (n := D.1.length) (by omega)
    have e1 : ((d_val (d_next (d_next s)) D.1.length).toNat : Int) = d_val (d_next (d_next s)) (a_many A i) := by rw [x5]; omega
    rw [← e1]
    exact h.makes (c := 3) (r2 := 0) (ss := []) hi ⟨fun e => by omega, fun e => by omega, fun e => by omega, fun _ => by omega, fun _ => rfl, by omega⟩ (fun e => by omega) (by show A 5 + 0 ≤ 319; omega) (fun s hs => by cases hs) ht hdate (by show 0 ≤ 1; omega)
  rw [if_neg w5, if_neg w5, if_neg w5]
  by_cases w23 : d_val (d_next s) 6 = 2 ∨ d_val (d_next s) 6 = 3
  · rw [if_pos w23, if_pos w23, if_pos w23, h.first hi]
    cases hD : D.2.1 with
    | nil =>
      have z0 : D.2.1.length = 0 := by rw [hD]; rfl
      rw [if_pos (by rw [if_pos (by rfl)]), if_pos (by rw [if_pos (by rfl)])]
      exact ⟨same, rfl⟩
    | cons s0 l0 =>
      have z0 : ¬ D.2.1.length = 0 := by rw [hD]; simp
      have hs0 : D.2.1[0]? = some s0 := by rw [hD]; rfl
      obtain ⟨k1, -, -, k2, k3⟩ := h.tok hi hs0
      have en : ∀ X : Int, (if (s0 :: l0).length = 0 then (-1 : Int) else X) = X := fun X => if_neg (by simp)
      rw [en]
      have ne : ¬ (((g i 0 : Nat) : Int) = -1) := by omega
      rw [if_neg ne, if_neg ne, k1, hlast]
      refine ⟨?_, rfl⟩
      have vr := d_val_r (s := d_next (d_next s)) (n := (dc_last D : Int) + 1) (by omega)
      have e1 : ((d_val (d_next (d_next s)) ((dc_last D : Int) + 1)).toNat : Int) = d_val (d_next (d_next s)) ((dc_last D : Int) + 1) := by omega
      rw [← e1]
      show ∃ g', rl_ok _ (Ds.set i (dw_on D t (if dc_last D = 20 ∨ D.1.length = 10 then none else some (0, (d_val (d_next (d_next s)) ((dc_last D : Int) + 1)).toNat, 0, [s0])))) g' ∧ _
      generalize (d_val (d_next (d_next s)) ((dc_last D : Int) + 1)).toNat = r1 at e1
      by_cases z : dc_last D = 20 ∨ D.1.length = 10
      · rw [if_pos z]
        have e2 : g_makes A 0 i r1 0 [s_code s0] date = A := by
          unfold g_makes
          by_cases z9 : D.1.length = 10
          · rw [if_pos (by rw [x5, z9]; decide)]
          · rw [if_neg (by rw [x5]; omega)]
            have hl : A (Int.toNat (46 + g_last A i)) = dc_last D := hlast
            rw [if_pos (show (0 : Int) = 0 from rfl), if_pos (show (20 : Int) ≤ A (Int.toNat (46 + g_last A i)) by rw [hl]; omega)]
            split <;> rfl
        rw [e2]
        exact same
      · rw [if_neg z]
        exact h.makes (c := 0) (r2 := 0) (ss := [s0]) hi ⟨fun _ => ⟨by omega, by show dc_last D + 1 ≤ 20; omega⟩, fun e => by omega, fun e => by omega, fun e => by omega, fun e => absurd rfl e, by omega⟩ (fun _ => rfl) (by show A 5 + 1 ≤ 319; omega) (fun s hs => by have hs := List.mem_singleton.mp hs; subst hs; exact ⟨k2, k3⟩) ht hdate (by show 1 ≤ 1; omega)
  rw [if_neg w23, if_neg w23, if_neg w23, hlast]
  by_cases l0 : dc_last D = 0
  · have li : ((dc_last D : Nat) : Int) = 0 := by omega
    rw [if_pos li, if_pos li, if_pos l0]
    exact ⟨same, rfl⟩
  have ln : ¬ ((dc_last D : Nat) : Int) = 0 := by omega
  rw [if_neg ln, if_neg ln, if_neg l0]
  have vr := d_val_r (s := d_next (d_next s)) (n := dc_last D) (by omega)
  have vr2 := d_val_r (s := d_next (d_next (d_next s))) (n := dc_last D) (by omega)
  have vw := d_val_r (s := d_next s) (n := 6) (by omega)
  have e1 : ((d_val (d_next (d_next s)) (dc_last D)).toNat : Int) = d_val (d_next (d_next s)) (dc_last D) := by omega
  have e2 : ((d_val (d_next (d_next (d_next s))) (dc_last D)).toNat : Int) = d_val (d_next (d_next (d_next s))) (dc_last D) := by omega
  by_cases w2 : d_val (d_next s) 6 < 2
  · rw [if_pos w2, if_neg (show ¬ d_val (d_next s) 6 = 4 by omega), if_pos w2, ← e1]
    refine ⟨?_, rfl⟩
    exact h.makes (c := 1) (r2 := 1) (ss := []) hi ⟨fun e => by omega, fun _ => by omega, fun e => by omega, fun e => by omega, fun _ => rfl, by omega⟩ (fun e => by omega) (by show A 5 + 0 ≤ 319; omega) (fun s hs => by cases hs) ht hdate (by show 0 ≤ 1; omega)
  · rw [if_neg w2, if_pos (show d_val (d_next s) 6 = 4 by omega), if_neg w2, ← e1, ← e2]
    refine ⟨?_, rfl⟩
    exact h.makes (c := 2) (ss := []) hi ⟨fun e => by omega, fun e => by omega, fun _ => by omega, fun e => by omega, fun _ => rfl, by omega⟩ (fun e => by omega) (by show A 5 + 0 ≤ 319; omega) (fun s hs => by cases hs) ht hdate (by show 0 ≤ 1; omega)
end
