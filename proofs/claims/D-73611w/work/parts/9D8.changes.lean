set_option maxRecDepth 100000
/-! the plain law: dates behind which it is another one; hunts -/
def ch_at (f : Nat → Int) (t : Nat) : Bool := !decide (f t = if t = 0 then 0 else f (t - 1))
def ch_l (f : Nat → Int) (t n : Nat) : List Nat := (List.range' t n).filter (ch_at f)
theorem ch_l_s (f : Nat → Int) (t n : Nat) : ch_l f t (n + 1) = if ch_at f t = true then t :: ch_l f (t + 1) n else ch_l f (t + 1) n := by
  unfold ch_l
  rw [List.range'_succ, List.filter_cons]
/-- the i-th of a list; none; how many there are -/
def ch_n (l : List Nat) (i : Int) : Int := if i = -1 then l.length else (match l[i.toNat]? with | some x => (x : Int) | none => -1)
theorem chgF_l {A : Nat → Int} {T : Int → Int → Int} {k i : Int} : ∀ (fu t : Nat) (n was : Int), (was = if t = 0 then 0 else q_asOf A T k ((t : Int) - 1)) → (0 ≤ n ∧ (i = -1 ∨ n ≤ i)) → q_chgF A T k i fu n was t = if i = -1 then n + (ch_l (fun t => q_asOf A T k t) t fu).length else ch_n (ch_l (fun t => q_asOf A T k t) t fu) (i - n) := by
  intro fu
  induction fu with
  | zero =>
    intro t n was hw hi
    show (if i = -1 then n else -1) = _
    by_cases z : i = -1
    · rw [if_pos z, if_pos z]
      show n = n + 0
      omega
    · rw [if_neg z, if_neg z]
      unfold ch_n
      rw [if_neg (by omega)]
      rfl
  | succ fu ih =>
    intro t n was hw hi
    show (if q_asOf A T k t = was then q_chgF A T k i fu n (q_asOf A T k t) (t + 1) else if n = i then (t : Int) else q_chgF A T k i fu (n + 1) (q_asOf A T k t) (t + 1)) = _
    have hw2 : q_asOf A T k t = if t + 1 = 0 then 0 else q_asOf A T k (((t + 1 : Nat) : Int) - 1) := by
      rw [if_neg (by omega)]
      congr 1
      omega
    have hc : ch_at (fun t => q_asOf A T k t) t = !decide (q_asOf A T k t = was) := by
      show (!decide (q_asOf A T k t = if t = 0 then 0 else q_asOf A T k ((t - 1 : Nat) : Int))) = _
      rw [hw]
      by_cases z : t = 0
      · rw [if_pos z, if_pos z]
      · rw [if_neg z, if_neg z, show ((t - 1 : Nat) : Int) = (t : Int) - 1 by omega]
    rw [ch_l_s, hc]
    by_cases e : q_asOf A T k t = was
    · rw [if_pos e, decide_eq_true e, ih (t + 1) n _ hw2 hi]
      rfl
    · rw [if_neg e, decide_eq_false e, if_pos (show (!false) = true from rfl)]
      by_cases z : i = -1
      · rw [if_pos z, if_neg (by omega), ih (t + 1) (n + 1) _ hw2 ⟨by omega, Or.inl z⟩, if_pos z, List.length_cons]
        omega
      · have hi2 := hi.2.resolve_left z
        rw [if_neg z]
        by_cases y : n = i
        · rw [if_pos y]
          unfold ch_n
          rw [if_neg (by omega), show (i - n).toNat = 0 by omega]
          rfl
        · rw [if_neg y, ih (t + 1) (n + 1) _ hw2 ⟨by omega, Or.inr (by omega)⟩, if_neg z]
          unfold ch_n
          rw [if_neg (by omega), if_neg (by omega), show (i - n).toNat = (i - (n + 1)).toNat + 1 by omega, List.getElem?_cons_succ]
/-- all dates are ahead of t, which is below a hundred -/
def da_dt (Ds : List dc) (t : Int) : Prop := (0 ≤ t ∧ t ≤ 100) ∧ ∀ D ∈ Ds, ∀ x ∈ D.2.2, x < t
theorem dc_asOf_all {D : dc} (hD : dc_ok D) (h1 : 1 ≤ D.1.length) {x : Int} (h : ∀ y ∈ D.2.2, y ≤ x) : dc_asOf D x = (D.1.length : Int) - 1 := by
  unfold dc_asOf
  have key : ∀ n, n ≤ D.1.length → upto n (fun v (at' : Int) => if x < D.2.2.getD v 0 then at' else (v : Int)) (-1) = (n : Int) - 1 := by
    intro n
    induction n with
    | zero => intro _; rfl
    | succ n ih =>
      intro hn
      rw [upto_s]
      obtain ⟨y, hy⟩ := dc_get (l := D.2.2) (i := n) (by rw [← hD.2.1]; omega)
      have := h y (List.mem_of_getElem? hy)
      rw [dc_getD hy, if_neg (by omega)]
      omega
  exact key _ (Nat.le_refl _)
theorem ch_cut {f : Nat → Int} {m n : Nat} (hm : m ≤ n) (h : ∀ t, m ≤ t → t < n → ch_at f t = false) : ch_l f 0 n = ch_l f 0 m := by
  unfold ch_l
  have e : List.range' 0 n = List.range' 0 m ++ List.range' m (n - m) := by
    have := List.range'_append (s := 0) (m := m) (n := n - m) (step := 1)
    rw [Nat.one_mul, Nat.zero_add, show m + (n - m) = n by omega] at this
    exact this.symm
  rw [e, List.filter_append]
  have z : (List.range' m (n - m)).filter (ch_at f) = [] := by
    refine List.filter_eq_nil_iff.mpr (fun t ht => ?_)
    obtain ⟨i, hi, rfl⟩ := List.mem_range'.mp ht
    rw [h _ (by omega) (by omega)]
    simp
  rw [z, List.append_nil]
section
variable {A B : Nat → Int} {Ds : List dc} {g : Nat → Nat → Nat} {i v p j t k : Nat} {D : dc} {u : Int} {Q : List qQ} {q : qQ} {s : List Int}
theorem rl_ok.chg (h : rl_ok A Ds g) (hdt : rl_dt A Ds) (hQ : qr B u Q) (hk : k < Q.length) {dt : Int} (hd : da_dt Ds dt) {x : Int} (hx : -1 ≤ x) : q_chg A (q_T A B u) k x = ch_n (ch_l (fun t => dk_asOf Ds (qph Ds Q k) (t : Nat)) 0 dt.toNat) x := by
  unfold q_chg
  have e1 : (fun t : Nat => q_asOf A (q_T A B u) (k : Nat) (t : Nat)) = fun t : Nat => dk_asOf Ds (qph Ds Q k) (t : Nat) := funext (fun t => h.asOf hdt hQ hk t)
  rw [chgF_l 100 0 0 0 rfl (by omega), e1, ch_cut (m := dt.toNat) (by have := hd.1; omega) (fun t h1 h2 => ?_)]
  · by_cases z : x = -1
    · rw [if_pos z]
      unfold ch_n
      rw [if_pos z]
      omega
    · rw [if_neg z, Int.sub_zero]
  · show (!decide (dk_asOf Ds (qph Ds Q k) (t : Nat) = if t = 0 then 0 else dk_asOf Ds (qph Ds Q k) ((t - 1 : Nat) : Int))) = false
    have z : t ≠ 0 ∨ Ds.length = 0 := by
      by_cases y : t = 0
      · refine Or.inr ?_
        rcases Nat.eq_zero_or_pos Ds.length with l | l
        · exact l
        · exfalso
          have hD := h.D0 l
          obtain ⟨⟨g1, g2⟩, g3, g4, g5, g6, g7, g8, g9, g10⟩ := h.dat hD
          obtain ⟨y, hy⟩ := dc_get (l := (da_D Ds 0).2.2) (i := 0) (by rw [← g10.2.1]; omega)
          have a1 := hd.2 _ (List.mem_of_getElem? hD) y (List.mem_of_getElem? hy)
          have a2 := g10.2.2.2.2.2 y (List.mem_of_getElem? hy)
          omega
      · exact Or.inl y
    rcases z with z | z
    · rw [if_neg z]
      have e : dk_asOf Ds (qph Ds Q k) (t : Nat) = dk_asOf Ds (qph Ds Q k) (t - 1 : Nat) := by
        unfold dk_asOf
        refine upto_cg _ (fun i s hi => ?_)
        have hD := h.D0 hi
        obtain ⟨⟨g1, g2⟩, g3, g4, g5, g6, g7, g8, g9, g10⟩ := h.dat hD
        have a := hd.2 _ (List.mem_of_getElem? hD)
        rw [dc_asOf_all g10 g7 (x := (t : Nat)) (fun y hy => by have := a y hy; omega), dc_asOf_all g10 g7 (x := (t - 1 : Nat)) (fun y hy => by have := a y hy; omega)]
      rw [e, decide_eq_true rfl]
      rfl
    · have e : ∀ x, dk_asOf Ds (qph Ds Q k) x = 0 := fun x => by unfold dk_asOf; rw [z]; rfl
      rw [e, e]
      split <;> rfl
end
/-! hunts -/
def hr (B : Nat → Int) (t : Int) (F : List hF) : Prop := h_n B t = F.length ∧ F.length ≤ 8 ∧ ∀ (k : Nat) (f : hF), F[k]? = some f → h_at B t k 0 = f.1 ∧ h_at B t k 1 = f.2.1 ∧ h_at B t k 2 = f.2.2
/-- the words of an archive: letters, in their order -/
def wl_ok (A : Nat → Int) (Ds : List dc) (XS : List (List Int)) : Prop := a_words A (A 5).toNat = XS.map s_code ∧ ∀ s ∈ XS, (∀ c ∈ s, 97 ≤ c ∧ c ≤ 122) ∧ 1 ≤ s.length ∧ s.length ≤ 4
theorem map_code_inj : ∀ {l m : List (List Int)}, (∀ s ∈ l, (∀ c ∈ s, 97 ≤ c ∧ c ≤ 122) ∧ 1 ≤ s.length ∧ s.length ≤ 4) → (∀ s ∈ m, (∀ c ∈ s, 97 ≤ c ∧ c ≤ 122) ∧ 1 ≤ s.length ∧ s.length ≤ 4) → l.map s_code = m.map s_code → l = m
  | [], [], _, _, _ => rfl
  | [], y :: m, _, _, h => by cases h
  | x :: l, [], _, _, h => by cases h
  | x :: l, y :: m, hl, hm, h => by
    rw [List.map_cons, List.map_cons] at h
    obtain ⟨h1, h2⟩ := List.cons.inj h
    obtain ⟨a1, a2⟩ := hl x List.mem_cons_self
    obtain ⟨b1, b2⟩ := hm y List.mem_cons_self
    rw [s_code_inj a1 b1 a2 b2 h1, map_code_inj (fun s hs => hl s (List.mem_cons_of_mem _ hs)) (fun s hs => hm s (List.mem_cons_of_mem _ hs)) h2]
theorem hu_sure_all : ∀ (c : Int) (SS : List (List Int)), c ≠ -1 → (∀ s ∈ SS, hu_c s ≠ -1) → hu_sure c SS = if SS.all (fun s => decide (hu_c s = c)) = true then c else -1
  | c, [], _, _ => rfl
  | c, s :: l, hc, hs => by
    show (if c = -1 then hu_sure (hu_c s) l else if c = hu_c s then hu_sure (hu_c s) l else -1) = _
    rw [if_neg hc]
    have ih := hu_sure_all c l hc (fun s h => hs s (List.mem_cons_of_mem _ h))
    by_cases e : c = hu_c s
    · rw [if_pos e, ← e, ih, List.all_cons, decide_eq_true e.symm, Bool.true_and]
    · rw [if_neg e, List.all_cons, decide_eq_false (fun z => e z.symm), Bool.false_and, if_neg (by simp)]
theorem bit_26 : ∀ v k : Fin 27, s_has (s_bit ((v : Nat) : Int)) ((k : Nat) : Int) = decide ((v : Nat) = (k : Nat)) := by decide +kernel
theorem zero_26 : ∀ k : Fin 27, s_has 0 ((k : Nat) : Int) = false := by decide +kernel
/-- the first letter of a word, by its number filled up -/
theorem wide_first {s : List Int} (hs : ∀ c ∈ s, 97 ≤ c ∧ c ≤ 122) (hl : 1 ≤ s.length ∧ s.length ≤ 4) : s_wide 4 (s_code s) / 19683 = hu_c s ∧ 1 ≤ hu_c s ∧ hu_c s ≤ 26 := by
  match s, hs, hl with
  | [a], hs, _ =>
    have ha := hs a (by simp)
    have e : s_code [a] = a - 96 := by show 27 * 0 + a - 97 + 1 = _; omega
    have eh : hu_c [a] = a - 97 + 1 := rfl
    rw [e, s_wide_e ⟨by omega, by omega⟩, eh, if_neg (by omega), if_neg (by omega), if_neg (by omega)]
    omega
  | [a, b], hs, _ =>
    have ha := hs a (by simp)
    have hb := hs b (by simp)
    have e : s_code [a, b] = 27 * (a - 96) + (b - 96) := by show 27 * (27 * 0 + a - 97 + 1) + b - 97 + 1 = _; omega
    have eh : hu_c [a, b] = a - 97 + 1 := rfl
    rw [e, s_wide_e ⟨by omega, by omega⟩, eh, if_neg (by omega), if_neg (by omega), if_pos (by omega)]
    omega
  | [a, b, c], hs, _ =>
    have ha := hs a (by simp)
    have hb := hs b (by simp)
    have hc := hs c (by simp)
    have e : s_code [a, b, c] = 27 * (27 * (a - 96) + (b - 96)) + (c - 96) := by show 27 * (27 * (27 * 0 + a - 97 + 1) + b - 97 + 1) + c - 97 + 1 = _; omega
    have eh : hu_c [a, b, c] = a - 97 + 1 := rfl
    rw [e, s_wide_e ⟨by omega, by omega⟩, eh, if_neg (by omega), if_pos (by omega)]
    omega
  | [a, b, c, d], hs, _ =>
    have ha := hs a (by simp)
    have hb := hs b (by simp)
    have hc := hs c (by simp)
    have hd := hs d (by simp)
    have e : s_code [a, b, c, d] = 27 * (27 * (27 * (a - 96) + (b - 96)) + (c - 96)) + (d - 96) := by show 27 * (27 * (27 * (27 * 0 + a - 97 + 1) + b - 97 + 1) + c - 97 + 1) + d - 97 + 1 = _; omega
    have eh : hu_c [a, b, c, d] = a - 97 + 1 := rfl
    rw [e, s_wide_e ⟨by omega, by omega⟩, eh, if_pos (by omega)]
    omega
section
variable {A B : Nat → Int} {Ds : List dc} {g : Nat → Nat → Nat} {i v p j k : Nat} {D : dc} {t : Int} {F : List hF} {s : List Int} {XS : List (List Int)}
theorem rl_ok.wl (h : rl_ok A Ds g) (h1 : ∀ s ∈ XS, (∀ c ∈ s, 97 ≤ c ∧ c ≤ 122) ∧ 1 ≤ s.length ∧ s.length ≤ 4) (h2 : ∀ (i j : Nat) (s r : List Int), i < j → XS[i]? = some s → XS[j]? = some r → hu_W s < hu_W r) (h3 : ∀ κ, (∃ s ∈ XS, hu_W s = κ) ↔ 0 < (ix_R Ds κ).1) : wl_ok A Ds XS := by
  refine ⟨?_, h1⟩
  have hs : (XS.map hu_W).Pairwise (· < ·) := by
    rw [List.pairwise_map]
    refine List.pairwise_iff_getElem.mpr (fun i j hi hj hij => ?_)
    exact h2 i j _ _ hij (List.getElem?_eq_getElem hi) (List.getElem?_eq_getElem hj)
  have hm : ∀ κ, κ ∈ XS.map hu_W ↔ 0 < (ix_R Ds κ).1 := fun κ => by rw [List.mem_map, h3 κ]
  refine List.ext_getElem? (fun k => ?_)
  have hl := congrArg List.length (h.words hs hm)
  rw [List.length_map, List.length_map] at hl
  rw [List.getElem?_map]
  cases e : XS[k]? with
  | none =>
    have := List.getElem?_eq_none_iff.mp e
    rw [List.getElem?_eq_none (by omega)]
    rfl
  | some s =>
    obtain ⟨a1, a2⟩ := h1 s (List.mem_of_getElem? e)
    exact h.wordAtK hs hm (κ := hu_W s) (by rw [List.getElem?_map, e]; rfl) a1 a2 rfl
theorem rl_ok.hin (h : rl_ok A Ds g) (hs : ∀ c ∈ s, 97 ≤ c ∧ c ≤ 122) (hl : 1 ≤ s.length ∧ s.length ≤ 4) (x y : Int) : h_in A (s_code s) x y = da_has Ds s x y := by
  unfold h_in da_has
  rw [h.isVer2]
  by_cases c : da_isVer Ds x y = true
  · rw [c, Bool.true_and, Bool.true_and]
    unfold da_isVer at c
    rw [Bool.and_eq_true, decide_eq_true_eq, decide_eq_true_eq] at c
    obtain ⟨⟨c1, c2⟩, c3, c4⟩ := c
    have hD := h.D0 (i := x.toNat) (by omega)
    have hv : y.toNat < (da_D Ds x.toNat).1.length := by omega
    have ex : ((x.toNat : Nat) : Int) = x := by omega
    have ey : ((y.toNat : Nat) : Int) = y := by omega
    rw [← ex, ← ey, Int.toNat_natCast, Int.toNat_natCast]
    generalize x.toNat = i at hD hv
    generalize y.toNat = v at hv
    have ht : a_times A i v (s_code s) = upto (dc_len (da_D Ds i) v) (fun p (n : Int) => n + (if dc_w (da_D Ds i) v p = s then 1 else 0)) 0 := by
      unfold a_times
      rw [(h.len hD hv).1, Int.toNat_natCast]
      refine upto_cg _ (fun p n hp => ?_)
      have := h.weq hD hv hp hs hl
      simp only [this]
    rw [Bool.eq_iff_iff, Bool.not_eq_true', decide_eq_false_iff_not, ht]
    unfold dc_has
    rw [List.any_eq_true]
    have nn : ∀ k, k < dc_len (da_D Ds i) v → 0 ≤ (if dc_w (da_D Ds i) v k = s then (1 : Int) else 0) := fun k _ => by split <;> omega
    have e0 := sm_0_iff (f := fun p => if dc_w (da_D Ds i) v p = s then (1 : Int) else 0) (dc_len (da_D Ds i) v) nn
    have e1 := sm_nn (f := fun p => if dc_w (da_D Ds i) v p = s then (1 : Int) else 0) (dc_len (da_D Ds i) v) nn
    have e2 : upto (dc_len (da_D Ds i) v) (fun p (n : Int) => n + (if dc_w (da_D Ds i) v p = s then 1 else 0)) 0 = sm (dc_len (da_D Ds i) v) (fun p => if dc_w (da_D Ds i) v p = s then (1 : Int) else 0) := rfl
    rw [e2]
    constructor
    · intro z
      refine Classical.byContradiction (fun n => z ?_)
      have : sm (dc_len (da_D Ds i) v) (fun p => if dc_w (da_D Ds i) v p = s then (1 : Int) else 0) = 0 := e0.mpr (fun k hk => if_neg (fun y => n ⟨k, List.mem_range.mpr hk, decide_eq_true y⟩))
      omega
    · rintro ⟨k, hk, y⟩ z
      have : sm (dc_len (da_D Ds i) v) (fun p => if dc_w (da_D Ds i) v p = s then (1 : Int) else 0) = 0 := by omega
      have := e0.mp this k (List.mem_range.mp hk)
      rw [if_pos (of_decide_eq_true y)] at this
      omega
  · rw [show da_isVer Ds x y = false by simpa using c]
    rfl
theorem rl_ok.hso (h : rl_ok A Ds g) (hF : hr B t F) (hs : ∀ c ∈ s, 97 ≤ c ∧ c ≤ 122) (hl : 1 ≤ s.length ∧ s.length ≤ 4) : h_isSo A B t (s_code s) = hu_so Ds F s := by
  obtain ⟨f1, f2, f3⟩ := hF
  unfold h_isSo hu_so
  rw [f1, Int.toNat_natCast, Bool.eq_iff_iff, List.all_eq_true, List.all_eq_true]
  have one : ∀ (k : Nat) (f : hF), F[k]? = some f → h_so A B t (s_code s) k = hu_one Ds s f := by
    intro k f hf
    obtain ⟨a1, a2, a3⟩ := f3 k f hf
    unfold h_so hu_one
    rw [a1, a2, a3, h.hin hs hl]
  constructor
  · intro z f hf
    obtain ⟨k, hk⟩ := List.getElem?_of_mem hf
    rw [← one k f hk]
    exact z k (List.mem_range.mpr (List.getElem?_eq_some_iff.mp hk).1)
  · intro z k hk
    obtain ⟨f, hf⟩ := dc_get (List.mem_range.mp hk)
    rw [one k f hf]
    exact z f (List.mem_of_getElem? hf)
/-- what was found among the first words -/
theorem rl_ok.hst (h : rl_ok A Ds g) (hF : hr B t F) (hX : wl_ok A Ds XS) (y : Int) : ∀ n, n ≤ XS.length →
    (h_st A B t y (a_words A (A 5).toNat) n).1 = ((XS.take n).filter (hu_so Ds F)).length ∧
    (h_st A B t y (a_words A (A 5).toNat) n).2.1 = (if 0 ≤ y then (match ((XS.take n).filter (hu_so Ds F))[y.toNat]? with | some s => s_code s | none => -2) else -2) ∧
    (∀ c : Nat, c < 27 → s_has (h_st A B t y (a_words A (A 5).toNat) n).2.2.1 c = ((XS.take n).filter (hu_so Ds F)).any (fun s => decide (hu_c s = c))) ∧
    (∀ j : Nat, j < 40 → (h_st A B t y (a_words A (A 5).toNat) n).2.2.2 j = hu_cnt Ds ((XS.take n).filter (hu_so Ds F)) (j / 10 : Nat) (j % 10 : Nat) ((XS.take n).filter (hu_so Ds F)).length) := by
  obtain ⟨w1, w2⟩ := hX
  intro n
  induction n with
  | zero =>
    intro _
    refine ⟨rfl, ?_, fun c hc => zero_26 ⟨c, hc⟩, fun j _ => rfl⟩
    show (-2 : Int) = if 0 ≤ y then (match ([] : List (List Int))[y.toNat]? with | some s => s_code s | none => -2) else -2
    simp
  | succ n ih =>
    intro hn
    obtain ⟨i1, i2, i3, i4⟩ := ih (by omega)
    obtain ⟨s, hs⟩ := dc_get (l := XS) (i := n) (by omega)
    obtain ⟨s1, s2⟩ := w2 s (List.mem_of_getElem? hs)
    have hg : (a_words A (A 5).toNat).getD n 0 = s_code s := by
      have e : (a_words A (A 5).toNat)[n]? = some (s_code s) := by rw [w1, List.getElem?_map, hs]; rfl
      exact dc_getD e
    rw [take_s hs, List.filter_append]
    have ef : [s].filter (hu_so Ds F) = if hu_so Ds F s = true then [s] else [] := by
      rw [List.filter_cons]
      rfl
    have est : h_st A B t y (a_words A (A 5).toNat) (n + 1) = if h_isSo A B t ((a_words A (A 5).toNat).getD n 0) = true then ((h_st A B t y (a_words A (A 5).toNat) n).1 + 1, if (h_st A B t y (a_words A (A 5).toNat) n).1 = y then (a_words A (A 5).toNat).getD n 0 else (h_st A B t y (a_words A (A 5).toNat) n).2.1, s_or (h_st A B t y (a_words A (A 5).toNat) n).2.2.1 (s_bit (s_wide 4 ((a_words A (A 5).toNat).getD n 0) / 19683)), fun j => if j < 40 then (h_st A B t y (a_words A (A 5).toNat) n).2.2.2 j + (if h_in A ((a_words A (A 5).toNat).getD n 0) (j / 10 : Nat) (j % 10 : Nat) = true then 1 else 0) else (h_st A B t y (a_words A (A 5).toNat) n).2.2.2 j) else h_st A B t y (a_words A (A 5).toNat) n := rfl
    rw [est, hg, h.hso hF s1 s2, ef]
    generalize h_st A B t y (a_words A (A 5).toNat) n = S at i1 i2 i3 i4 ⊢
    generalize (XS.take n).filter (hu_so Ds F) = SS at i1 i2 i3 i4 ⊢
    by_cases c : hu_so Ds F s = true
    · rw [if_pos c, if_pos c]
      obtain ⟨c1, c2, c3⟩ := wide_first s1 s2
      refine ⟨?_, ?_, fun x hx => ?_, fun j hj => ?_⟩
      · show S.1 + 1 = _
        rw [i1, List.length_append]
        rfl
      · show (if S.1 = y then s_code s else S.2.1) = _
        by_cases z : 0 ≤ y
        · rw [if_pos z]
          rw [if_pos z] at i2
          by_cases e : S.1 = y
          · rw [if_pos e, List.getElem?_append_right (by omega), show y.toNat - SS.length = 0 by omega]
            rfl
          · rw [if_neg e, i2]
            by_cases lt : y.toNat < SS.length
            · rw [List.getElem?_append_left lt]
            · rw [List.getElem?_eq_none (by omega), List.getElem?_eq_none (by rw [List.length_append]; show SS.length + 1 ≤ y.toNat; omega)]
        · rw [if_neg z] at i2 ⊢
          rw [if_neg (by omega), i2]
      · show s_has (s_or S.2.2.1 (s_bit (s_wide 4 (s_code s) / 19683))) x = _
        rw [s_has_or _ _ (by omega), i3 x hx, c1, List.any_append]
        congr 1
        have := bit_26 ⟨(hu_c s).toNat, by omega⟩ ⟨x, hx⟩
        have e1 : (((hu_c s).toNat : Nat) : Int) = hu_c s := by omega
        have this : s_has (s_bit (((hu_c s).toNat : Nat) : Int)) x = decide ((hu_c s).toNat = x) := this
        rw [e1] at this
        rw [this]
        show _ = (decide (hu_c s = x) || false)
        rw [Bool.or_false, decide_eq_decide]
        omega
      · show (if j < 40 then S.2.2.2 j + (if h_in A (s_code s) (j / 10 : Nat) (j % 10 : Nat) = true then 1 else 0) else S.2.2.2 j) = _
        rw [if_pos hj, i4 j hj, h.hin s1 s2, List.length_append]
        unfold hu_cnt
        show _ = upto (SS.length + 1) _ 0
        rw [upto_s]
        congr 1
        · refine upto_cg _ (fun k a hk => ?_)
          rw [show (SS ++ [s]).getD k [] = SS.getD k [] from by rw [List.getD_eq_getElem?_getD, List.getD_eq_getElem?_getD, List.getElem?_append_left hk]]
        · rw [show (SS ++ [s]).getD SS.length [] = s from by rw [List.getD_eq_getElem?_getD, List.getElem?_append_right (Nat.le_refl _), Nat.sub_self]; rfl]
    · rw [if_neg c, if_neg c, List.append_nil]
      exact ⟨i1, i2, i3, i4⟩
/-- the sure letter -/
theorem sureF_at {x : Int} {c : Nat} : ∀ (f d : Nat), d ≤ c → c < d + f → x = s_bit c → (∀ e, d ≤ e → e < c → x ≠ s_bit (e : Nat)) → h_sureF x f d = c := by
  intro f
  induction f with
  | zero => intro d h1 h2; omega
  | succ f ih =>
    intro d h1 h2 h3 h4
    show (if x = s_bit d then (d : Int) else h_sureF x f (d + 1)) = c
    by_cases e : d = c
    · subst e; rw [if_pos h3]
    · rw [if_neg (h4 d (Nat.le_refl _) (by omega))]
      exact ih (d + 1) (by omega) (by omega) h3 (fun e h5 h6 => h4 e (by omega) h6)
theorem sureF_no {x : Int} : ∀ (f d : Nat), (∀ e, d ≤ e → e < d + f → x ≠ s_bit (e : Nat)) → h_sureF x f d = -1 := by
  intro f
  induction f with
  | zero => intro d _; rfl
  | succ f ih =>
    intro d h
    show (if x = s_bit d then (d : Int) else h_sureF x f (d + 1)) = -1
    rw [if_neg (h d (Nat.le_refl _) (by omega))]
    exact ih (d + 1) (fun e h1 h2 => h e (by omega) (by omega))
end
