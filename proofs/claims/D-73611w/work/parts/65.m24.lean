set_option maxRecDepth 100000
/-! the twin: hunts -/
def h_n (B : Nat → Int) (t : Int) : Int := B (Int.toNat (25 * t))
def h_at (B : Nat → Int) (t k i : Int) : Int := B (Int.toNat (25 * t + 1 + 3 * k + i))
def h_ok (B : Nat → Int) (t : Int) : Prop := (0 ≤ h_n B t ∧ h_n B t ≤ 8) ∧ ∀ k i, 0 ≤ k → k < 8 → 0 ≤ i → i < 3 → 0 ≤ h_at B t k i ∧ h_at B t k i ≤ 9
def tw_hok (S : tw_S) : Prop := ∀ t : Int, 0 ≤ t → t < S.2.2 5 2 → h_ok (S.2.2 8) t
theorem tw_hok.same {S S' : tw_S} (h : tw_hok S) (hs : tw_same S S') : tw_hok S' := by
  intro u h0 h1
  rw [hs 8 rfl]
  rw [hs 5 rfl] at h1
  exact h u h0 h1
def tw_isHu (S : tw_S) (t : Int) : Bool := decide (0 ≤ t ∧ t ≤ S.2.2 5 2 - 1)
def h_fact (B : Nat → Int) (t k q : Int) : Int := if k = -1 then (if q = 0 then h_n B t else -2) else if decide (0 ≤ k ∧ k ≤ h_n B t - 1) = true then (if decide (0 ≤ q ∧ q ≤ 2) = true then h_at B t k q else -2) else -2
def h_in (A : Nat → Int) (w d v : Int) : Bool := a_isVer A d v && !decide (a_times A d v w ≤ 0)
def h_so (A B : Nat → Int) (t w : Int) (k : Nat) : Bool := h_in A w (h_at B t k 1) (h_at B t k 2) == decide (h_at B t k 0 = 1)
def h_isSo (A B : Nat → Int) (t w : Int) : Bool := (List.range (h_n B t).toNat).all (h_so A B t w)
/-- how many fit, the k-th of them, their first letters, how many are in each version -/
def h_st (A B : Nat → Int) (t k : Int) (l : List Int) : Nat → Int × Int × Int × (Nat → Int)
  | 0 => (0, -2, 0, fun _ => 0)
  | i + 1 => if h_isSo A B t (l.getD i 0) = true then ((h_st A B t k l i).1 + 1, if (h_st A B t k l i).1 = k then l.getD i 0 else (h_st A B t k l i).2.1, s_or (h_st A B t k l i).2.2.1 (s_bit (s_wide 4 (l.getD i 0) / 19683)), fun j => if j < 40 then (h_st A B t k l i).2.2.2 j + (if h_in A (l.getD i 0) (j / 10 : Nat) (j % 10 : Nat) = true then 1 else 0) else (h_st A B t k l i).2.2.2 j) else h_st A B t k l i
theorem h_st_r {A B : Nat → Int} {t k : Int} {l : List Int} (hl : ∀ x ∈ l, 1 ≤ x ∧ x < 531441) : ∀ i : Nat, i ≤ l.length → (0 ≤ (h_st A B t k l i).1 ∧ (h_st A B t k l i).1 ≤ i) ∧ (-2 ≤ (h_st A B t k l i).2.1 ∧ (h_st A B t k l i).2.1 < 531441) ∧ rI (h_st A B t k l i).2.2.1 ∧ ∀ j : Nat, 0 ≤ (h_st A B t k l i).2.2.2 j ∧ (h_st A B t k l i).2.2.2 j ≤ (h_st A B t k l i).1 := by
  intro i
  induction i with
  | zero => intro _; exact ⟨⟨Int.le_refl 0, Int.le_refl 0⟩, ⟨Int.le_refl _, show (-2 : Int) < 531441 by omega⟩, rI_small (x := 0) (by omega) (by omega), fun j => ⟨Int.le_refl 0, Int.le_refl 0⟩⟩
  | succ i ih =>
    intro hi
    obtain ⟨h1, h2, h3, h4⟩ := ih (by omega)
    have hx : l[i]? = some l[i] := List.getElem?_eq_getElem (by omega)
    have hg : l.getD i 0 = l[i] := by rw [List.getD_eq_getElem?_getD, hx]; rfl
    have hw := hl _ (List.getElem_mem (show i < l.length by omega))
    by_cases h : h_isSo A B t (l.getD i 0) = true
    · have e : h_st A B t k l (i + 1) = ((h_st A B t k l i).1 + 1, if (h_st A B t k l i).1 = k then l.getD i 0 else (h_st A B t k l i).2.1, s_or (h_st A B t k l i).2.2.1 (s_bit (s_wide 4 (l.getD i 0) / 19683)), fun j => if j < 40 then (h_st A B t k l i).2.2.2 j + (if h_in A (l.getD i 0) (j / 10 : Nat) (j % 10 : Nat) = true then 1 else 0) else (h_st A B t k l i).2.2.2 j) := by
        show (if h_isSo A B t (l.getD i 0) = true then _ else _) = _
        rw [if_pos h]
      rw [e]
      refine ⟨⟨?_, ?_⟩, ?_, rI_or _ _, fun j => ?_⟩
      · show 0 ≤ (h_st A B t k l i).1 + 1
        omega
      · show (h_st A B t k l i).1 + 1 ≤ ((i + 1 : Nat) : Int)
        omega
      · show -2 ≤ (if (h_st A B t k l i).1 = k then l.getD i 0 else (h_st A B t k l i).2.1) ∧ (if (h_st A B t k l i).1 = k then l.getD i 0 else (h_st A B t k l i).2.1) < 531441
        rw [hg]
        split <;> omega
      · have := h4 j
        show 0 ≤ (if j < 40 then (h_st A B t k l i).2.2.2 j + (if h_in A (l.getD i 0) (j / 10 : Nat) (j % 10 : Nat) = true then 1 else 0) else (h_st A B t k l i).2.2.2 j) ∧ (if j < 40 then (h_st A B t k l i).2.2.2 j + (if h_in A (l.getD i 0) (j / 10 : Nat) (j % 10 : Nat) = true then 1 else 0) else (h_st A B t k l i).2.2.2 j) ≤ (h_st A B t k l i).1 + 1
        split
        · split <;> omega
        · omega
    · have e : h_st A B t k l (i + 1) = h_st A B t k l i := by
        show (if h_isSo A B t (l.getD i 0) = true then _ else _) = _
        rw [if_neg h]
      rw [e]
      exact ⟨⟨h1.1, by omega⟩, h2, h3, h4⟩
def h_askF (A : Nat → Int) (fit : Int) (Y : Nat → Int) : Nat → Nat → Int → Int → Int
  | 0, _, b, _ => b
  | f + 1, i, b, s => if fit ≤ 0 then b else if a_isVer A (i / 10 : Nat) (i % 10 : Nat) = true then (if s ≤ max (Y i) (fit - Y i) then h_askF A fit Y f (i + 1) b s else h_askF A fit Y f (i + 1) i (max (Y i) (fit - Y i))) else h_askF A fit Y f (i + 1) b s
def h_sureF (x : Int) : Nat → Nat → Int
  | 0, _ => -1
  | f + 1, c => if x = s_bit c then c else h_sureF x f (c + 1)
/-- with what was found laid -/
def tw_g (S : tw_S) (p : Int × Int × Int × (Nat → Int)) : tw_S := (fun i => if i = 31 then p.1 else if i = 32 then p.2.1 else if i = 33 then p.2.2.1 else S.1 i, S.2.1, fun q => if q = 15 then p.2.2.2 else S.2.2 q)
theorem tw_same.g (S : tw_S) (p : Int × Int × Int × (Nat → Int)) : tw_same S (tw_g S p) := fun q hq => by
  show (if q = 15 then p.2.2.2 else S.2.2 q) = _
  rw [if_neg]
  rintro rfl
  cases hq
theorem tw_g_sf1 (S : tw_S) (p : Int × Int × Int × (Nat → Int)) (x : Int) : tw_sf (tw_g S p) 31 x = tw_g S (x, p.2) := by
  refine Prod.ext (funext fun i => ?_) rfl
  show (if i = 31 then x else if i = 31 then p.1 else _) = if i = 31 then x else _
  split <;> rfl
theorem tw_g_sf2 (S : tw_S) (p : Int × Int × Int × (Nat → Int)) (x : Int) : tw_sf (tw_g S p) 32 x = tw_g S (p.1, x, p.2.2) := by
  refine Prod.ext (funext fun i => ?_) rfl
  show (if i = 32 then x else if i = 31 then p.1 else if i = 32 then p.2.1 else if i = 33 then p.2.2.1 else S.1 i) = if i = 31 then p.1 else if i = 32 then x else if i = 33 then p.2.2.1 else S.1 i
  by_cases h : i = 32
  · subst h; rfl
  · rw [if_neg h, if_neg h, if_neg h]
theorem tw_g_sf3 (S : tw_S) (p : Int × Int × Int × (Nat → Int)) (x : Int) : tw_sf (tw_g S p) 33 x = tw_g S (p.1, p.2.1, x, p.2.2.2) := by
  refine Prod.ext (funext fun i => ?_) rfl
  show (if i = 33 then x else if i = 31 then p.1 else if i = 32 then p.2.1 else if i = 33 then p.2.2.1 else S.1 i) = if i = 31 then p.1 else if i = 32 then p.2.1 else if i = 33 then x else S.1 i
  by_cases h : i = 33
  · subst h; rfl
  · rw [if_neg h, if_neg h, if_neg h]
theorem tw_g_sa (S : tw_S) (p : Int × Int × Int × (Nat → Int)) (i : Nat) (x : Int) : tw_sa (tw_g S p) 15 i x = tw_g S (p.1, p.2.1, p.2.2.1, fun j => if j = i then x else p.2.2.2 j) := by
  refine Prod.ext rfl (Prod.ext rfl (funext fun q => funext fun n => ?_))
  show (if q = 15 ∧ n = i then x else (if q = 15 then p.2.2.2 else S.2.2 q) n) = (if q = 15 then fun j => if j = i then x else p.2.2.2 j else S.2.2 q) n
  by_cases h : q = 15
  · simp [h]
  · simp [h]
theorem tw_g_w (S : tw_S) (p : Int × Int × Int × (Nat → Int)) (c : Int) (X : Nat → Int) : tw_w (tw_g S p) c X = tw_g (tw_w S c X) p := by
  refine Prod.ext (funext fun i => ?_) (Prod.ext rfl (funext fun q => funext fun n => ?_))
  · show (if i = 25 then c else if i = 31 then p.1 else if i = 32 then p.2.1 else if i = 33 then p.2.2.1 else S.1 i) = if i = 31 then p.1 else if i = 32 then p.2.1 else if i = 33 then p.2.2.1 else if i = 25 then c else S.1 i
    by_cases h : i = 25
    · subst h; rfl
    · rw [if_neg h, if_neg h]
  · show (if q = 12 then X n else (if q = 15 then p.2.2.2 else S.2.2 q) n) = (if q = 15 then p.2.2.2 else fun n => if q = 12 then X n else S.2.2 q n) n
    by_cases h : q = 15
    · subst h; rfl
    · rw [if_neg h, if_neg h]
theorem q_divJ {v : Int} (h : 0 ≤ v ∧ v < 2147483648) : iI v / 19683 = iI (v / 19683) := by
  apply Int32.toInt_inj.mp
  rw [Int32.toInt_div, iI_toInt (by constructor <;> omega), iI_toInt (by constructor <;> omega)]
  show (v.tdiv 19683).bmod _ = _
  rw [Int.tdiv_eq_ediv_of_nonneg h.1]
  rw [Int.bmod_def]
  omega
section
variable {E : pw_E} {w0 : pw_W} {m d : Nat} {S : tw_S}
theorem m_facts_ok {K : Int → tw_S → Prop} (hm : pw_base E ≤ m) (hd : 1 ≤ d) (hu : 0 ≤ S.1 30 ∧ S.1 30 ≤ 1) (H : K (h_n (S.2.2 8) (S.1 30)) S) : pw_Cl E m_X2_facts d [va_rf (some m)] (tw w0 m S) (c_i (t_i w0 m K)) := by
  obtain ⟨e, rfl, he⟩ := pw_d1 hd
  exact e_X2_facts _ (t_X2_facts_0 hm ⟨by omega, by omega, _, rfl, _, _, rfl, rfl, H⟩)
theorem m_factOf_ok {k i : Int} {K : Int → tw_S → Prop} (hm : pw_base E ≤ m) (hd : 1 ≤ d) (hu : 0 ≤ S.1 30 ∧ S.1 30 ≤ 1) (hk : 0 ≤ k ∧ k < 8) (hi : 0 ≤ i ∧ i < 3) (H : K (h_at (S.2.2 8) (S.1 30) k i) S) : pw_Cl E m_X2_factOf d [va_rf (some m), .int (iI k), .int (iI i)] (tw w0 m S) (c_i (t_i w0 m K)) := by
  obtain ⟨e, rfl, he⟩ := pw_d1 hd
  exact e_X2_factOf _ _ _ (t_X2_factOf_0 hm _ _ ⟨by omega, by omega, _, rfl, _, _, rfl, rfl, H⟩)
theorem m_hasHunt_ok {u : Int} {K : Bool → tw_S → Prop} (hm : pw_base E ≤ m) (hd : 3 ≤ d) (hu : rI u) (hr : 0 ≤ S.2.2 5 2 ∧ S.2.2 5 2 ≤ 2) (H : K (tw_isHu S u) (tw_sf S 30 u)) : pw_Cl E m_X2_hasHunt d [va_rf (some m), .int (iI u)] (tw w0 m S) (c_z (t_b w0 m K)) := by
  obtain ⟨e, rfl, he⟩ := pw_d1 hd
  exact e_X2_hasHunt _ _ (t_X2_hasHunt_0 hm _ (m_is_ok hm he ⟨by omega, by omega⟩ hu ⟨hr.1, by show S.2.2 5 2 ≤ 1000; omega⟩ ⟨_, rfl, _, rfl, H⟩))
theorem m_fact_ok {t k q : Int} {K : Int → tw_S → Prop} (hm : pw_base E ≤ m) (hI : tw_arok S) (hQ : tw_hok S) (hd : 4 ≤ d) (ht : rI t) (hk : rI k) (hq : rI q) (H : tq S K (if tw_isHu S t = true then h_fact (S.2.2 8) t k q else -2)) : pw_Cl E m_X2_fact d [va_rf (some m), .int (iI t), .int (iI k), .int (iI q)] (tw w0 m S) (c_i (t_i w0 m K)) := by
  obtain ⟨e, rfl, he⟩ := pw_d1 hd
  have hr := hI.1 2 (by omega)
  have hs : tw_same S (tw_sf (tw_sf S 0 0) 30 t) := (tw_same.sf S 0 0).trans (tw_same.sf _ _ _)
  refine e_X2_fact _ _ _ _ (t_X2_fact_0 hm _ _ _ (m_hasHunt_ok hm (by omega) ht hr ?_))
  refine ifS (c := tw_isHu S t = true) H (fun h H => ?_) (fun h H => ⟨_, rfl, _, _, rfl, rfl, H _ hs⟩)
  have h : 0 ≤ t ∧ t ≤ S.2.2 5 2 - 1 := of_decide_eq_true h
  have hu2 : 0 ≤ (tw_sf (tw_sf S 0 0) 30 t).1 30 ∧ (tw_sf (tw_sf S 0 0) 30 t).1 30 ≤ 1 := ⟨h.1, by show t ≤ 1; omega⟩
  have hB : h_ok (S.2.2 8) t := hQ t h.1 (by omega)
  have hn := hB.1
  refine ⟨hk, ifS H (fun h H => ⟨hq, ifS H (fun h H => m_facts_ok hm (by omega) hu2 ⟨_, rfl, _, _, rfl, rfl, H _ hs⟩) (fun h H => ⟨_, rfl, _, _, rfl, rfl, H _ hs⟩)⟩) (fun h H => ?_)⟩
  have hnr : rI (h_n (S.2.2 8) t - 1) := rI_small (by omega) (by omega)
  refine m_facts_ok hm (by omega) hu2 (m_in_ok hm (by omega) hk (rI_small (by omega) (by omega)) hnr (ifS H (fun h H => ?_) (fun h H => ⟨_, rfl, _, _, rfl, rfl, H _ hs⟩)))
  have h : 0 ≤ k ∧ k ≤ h_n (S.2.2 8) t - 1 := of_decide_eq_true h
  refine m_in_ok hm (by omega) hq (rI_small (by omega) (by omega)) (rI_small (by omega) (by omega)) (ifS H (fun h9 H => ?_) (fun h H => ⟨_, rfl, _, _, rfl, rfl, H _ hs⟩))
  have h9 := of_decide_eq_true h9
  exact m_factOf_ok hm (by omega) hu2 ⟨h.1, by omega⟩ ⟨h9.1, by omega⟩ ⟨_, rfl, _, _, rfl, rfl, H _ hs⟩
theorem m_isSo_ok {w : Int} {K : Bool → tw_S → Prop} (hm : pw_base E ≤ m) (hA : a_ok (S.2.2 9) (S.1 24)) (hu : 0 ≤ S.1 30 ∧ S.1 30 ≤ 1) (hB : h_ok (S.2.2 8) (S.1 30)) (hd : 5 ≤ d) (hw : rI w) (H : K (h_isSo (S.2.2 9) (S.2.2 8) (S.1 30) w) S) : pw_Cl E m_X2_isSo d [va_rf (some m), .int (iI w)] (tw w0 m S) (c_z (t_b w0 m K)) := by
  obtain ⟨e, rfl, he⟩ := pw_d1 hd
  have hn := hB.1
  have loop : ∀ (f k : Nat), (k : Int) + f = h_n (S.2.2 8) (S.1 30) → K ((List.range' k f).all (h_so (S.2.2 9) (S.2.2 8) (S.1 30) w)) S → pw_Wp E m_X2_isSo (e + 1) 2 [some (va_rf (some m)), some (.int (iI w)), some (.int (iI k)), none, none, none] [] (tw w0 m S) (c_z (t_b w0 m K)) := by
    intro f
    induction f with
    | zero =>
      intro k hk H
      refine t_X2_isSo_2 hm _ _ (m_facts_ok hm (by omega) hu ⟨rI_small (by omega) (by omega), rI_small (by omega) (by omega), ?_⟩)
      rw [if_pos (by omega)]
      exact ⟨true, rfl, S, rfl, H⟩
    | succ f ih =>
      intro k hk H
      have hk8 : 0 ≤ (k : Int) ∧ (k : Int) < 8 := ⟨by omega, by omega⟩
      have f0 := hB.2 k 0 hk8.1 hk8.2 (by omega) (by omega)
      have f1 := hB.2 k 1 hk8.1 hk8.2 (by omega) (by omega)
      have f2 := hB.2 k 2 hk8.1 hk8.2 (by omega) (by omega)
      rw [List.range'_succ, List.all_cons] at H
      refine t_X2_isSo_2 hm _ _ (m_facts_ok hm (by omega) hu ⟨rI_small (by omega) (by omega), rI_small (by omega) (by omega), ?_⟩)
      rw [if_neg (by omega)]
      have yes : h_in (S.2.2 9) w (h_at (S.2.2 8) (S.1 30) k 1) (h_at (S.2.2 8) (S.1 30) k 2) = true → (h_at (S.2.2 8) (S.1 30) k 0 = 1 → pw_Wp E m_X2_isSo (e + 1) 2 [some (va_rf (some m)), some (.int (iI w)), some (.int (iI ((k : Int) + 1))), none, none, none] [] (tw w0 m S) (c_z (t_b w0 m K))) ∧ (¬ h_at (S.2.2 8) (S.1 30) k 0 = 1 → K false S) := by
        intro hh
        refine ⟨fun h9 => ?_, fun h9 => ?_⟩
        · have e1 : h_so (S.2.2 9) (S.2.2 8) (S.1 30) w k = true := by unfold h_so; rw [hh, decide_eq_true h9]; rfl
          rw [e1, Bool.true_and] at H
          exact ih (k + 1) (by omega) H
        · have e1 : h_so (S.2.2 9) (S.2.2 8) (S.1 30) w k = false := by unfold h_so; rw [hh, decide_eq_false h9]; rfl
          rw [e1, Bool.false_and] at H
          exact H
      have no : h_in (S.2.2 9) w (h_at (S.2.2 8) (S.1 30) k 1) (h_at (S.2.2 8) (S.1 30) k 2) = false → (¬ h_at (S.2.2 8) (S.1 30) k 0 = 1 → pw_Wp E m_X2_isSo (e + 1) 2 [some (va_rf (some m)), some (.int (iI w)), some (.int (iI ((k : Int) + 1))), none, none, none] [] (tw w0 m S) (c_z (t_b w0 m K))) ∧ (h_at (S.2.2 8) (S.1 30) k 0 = 1 → K false S) := by
        intro hh
        refine ⟨fun h9 => ?_, fun h9 => ?_⟩
        · have e1 : h_so (S.2.2 9) (S.2.2 8) (S.1 30) w k = true := by unfold h_so; rw [hh, decide_eq_false h9]; rfl
          rw [e1, Bool.true_and] at H
          exact ih (k + 1) (by omega) H
        · have e1 : h_so (S.2.2 9) (S.2.2 8) (S.1 30) w k = false := by unfold h_so; rw [hh, decide_eq_true h9]; rfl
          rw [e1, Bool.false_and] at H
          exact H
      refine m_factOf_ok hm (by omega) hu hk8 ⟨by omega, by omega⟩ (m_factOf_ok hm (by omega) hu hk8 ⟨by omega, by omega⟩ (m_isVersion_ok hm hA (by omega) (rI_small (by omega) (by omega)) (rI_small (by omega) (by omega)) ?_))
      unfold h_in at yes no
      cases hv : a_isVer (S.2.2 9) (h_at (S.2.2 8) (S.1 30) k 1) (h_at (S.2.2 8) (S.1 30) k 2) with
      | false =>
        rw [if_neg (by decide)]
        obtain ⟨n1, n2⟩ := no (by rw [hv, Bool.false_and])
        refine m_factOf_ok hm (by omega) hu hk8 ⟨by omega, by omega⟩ ⟨rI_small (by omega) (by omega), ?_⟩
        by_cases h9 : h_at (S.2.2 8) (S.1 30) k 0 = 1
        · rw [if_pos h9]
          exact ⟨false, rfl, S, rfl, n2 h9⟩
        · rw [if_neg h9]
          exact n1 h9
      | true =>
        rw [if_pos rfl]
        obtain ⟨v1, v2⟩ := a_isVer_r hA hv
        have hr := a_times_r (S.2.2 9) (h_at (S.2.2 8) (S.1 30) k 1) (h_at (S.2.2 8) (S.1 30) k 2) w
        have hv10 := (hA.2.2.1 _ v1.1 v1.2).2
        have hl := hA.2.2.2.1 _ _ v1.1 v1.2 v2.1 (by omega)
        refine m_timesIn_ok hm hA (by omega) v1 v2 hw ⟨rI_small (by omega) (by omega), ?_⟩
        by_cases ht : a_times (S.2.2 9) (h_at (S.2.2 8) (S.1 30) k 1) (h_at (S.2.2 8) (S.1 30) k 2) w ≤ 0
        · rw [if_pos ht]
          obtain ⟨n1, n2⟩ := no (by rw [hv, decide_eq_true ht]; rfl)
          refine m_factOf_ok hm (by omega) hu hk8 ⟨by omega, by omega⟩ ⟨rI_small (by omega) (by omega), ?_⟩
          by_cases h9 : h_at (S.2.2 8) (S.1 30) k 0 = 1
          · rw [if_pos h9]
            exact ⟨false, rfl, S, rfl, n2 h9⟩
          · rw [if_neg h9]
            exact n1 h9
        · rw [if_neg ht]
          obtain ⟨y1, y2⟩ := yes (by rw [hv, decide_eq_false ht]; rfl)
          refine m_factOf_ok hm (by omega) hu hk8 ⟨by omega, by omega⟩ ⟨rI_small (by omega) (by omega), ?_⟩
          by_cases h9 : h_at (S.2.2 8) (S.1 30) k 0 = 1
          · rw [if_pos h9]
            exact y1 h9
          · rw [if_neg h9]
            exact ⟨false, rfl, S, rfl, y2 h9⟩
  unfold h_isSo at H
  rw [List.range_eq_range'] at H
  exact e_X2_isSo _ _ (t_X2_isSo_0 hm _ (loop _ 0 (by omega) H))
theorem m_noteFit_ok {w k : Int} {p : Int × Int × Int × (Nat → Int)} {K : tw_S → Prop} (hm : pw_base E ≤ m) (hA : a_ok (S.2.2 9) (S.1 24)) (hd : 5 ≤ d) (hw : 1 ≤ w ∧ w < 531441) (hk : rI k) (hp : 0 ≤ p.1 ∧ p.1 ≤ 400) (H : K (tw_g S (p.1 + 1, if p.1 = k then w else p.2.1, s_or p.2.2.1 (s_bit (s_wide 4 w / 19683)), fun j => if j < 40 then p.2.2.2 j + (if h_in (S.2.2 9) w (j / 10 : Nat) (j % 10 : Nat) = true then 1 else 0) else p.2.2.2 j))) : pw_Cl E m_X2_noteFit d [va_rf (some m), .int (iI w), .int (iI k)] (tw w0 m (tw_g S p)) (c_v (t_u w0 m K)) := by
  obtain ⟨e, rfl, he⟩ := pw_d1 hd
  have hwd := s_wide_b 4 w hw
  have loop : ∀ (a b c : Int) (Y : Nat → Int), (∀ Z : Nat → Int, (∀ j, Z j = if j < 40 then Y j + (if h_in (S.2.2 9) w (j / 10 : Nat) (j % 10 : Nat) = true then 1 else 0) else Y j) → K (tw_g S (a, b, c, Z))) → pw_Wp E m_X2_noteFit (e + 1) 51 [some (va_rf (some m)), some (.int (iI w)), none, some (.int (iI (0 : Nat))), none, none] [] (tw w0 m (tw_g S (a, b, c, Y))) (c_v (t_u w0 m K)) := by
    intro a b c Y H
    refine loop_up (n := 40) (P := fun i => ∀ Z : Nat → Int, (∀ j, Z j = if j < i then Y j + (if h_in (S.2.2 9) w (j / 10 : Nat) (j % 10 : Nat) = true then 1 else 0) else Y j) → pw_Wp E m_X2_noteFit (e + 1) 51 [some (va_rf (some m)), some (.int (iI w)), none, some (.int (iI i)), none, none] [] (tw w0 m (tw_g S (a, b, c, Z))) (c_v (t_u w0 m K))) ?_ ?_ 0 (by omega) Y (fun j => by rw [if_neg (by omega)])
    · intro i hi ih Z hZ
      have ei : Int.toNat (i : Int) = i := by omega
      have step : ∀ x : Int, x = Y i + (if h_in (S.2.2 9) w (i / 10 : Nat) (i % 10 : Nat) = true then 1 else 0) → pw_Wp E m_X2_noteFit (e + 1) 51 [some (va_rf (some m)), some (.int (iI w)), none, some (.int (iI ((i : Int) + 1))), none, none] [] (tw w0 m (tw_sa (tw_g S (a, b, c, Z)) 15 i x)) (c_v (t_u w0 m K)) := by
        intro x hx
        rw [tw_g_sa]
        refine ih _ (fun j => ?_)
        show (if j = i then x else Z j) = _
        by_cases h : j = i
        · rw [if_pos h, if_pos (by omega), hx, h]
        · rw [if_neg h, hZ j]
          by_cases h2 : j < i
          · rw [if_pos h2, if_pos (show j < i + 1 by omega)]
          · rw [if_neg h2, if_neg (show ¬ j < i + 1 by omega)]
      have hz : (tw_g S (a, b, c, Z)).2.2 15 i = Y i := by
        show Z i = Y i
        rw [hZ i, if_neg (by omega)]
      unfold h_in at step
      refine t_X2_noteFit_51 hm _ _ ⟨rI_small (by omega) (by omega), ?_⟩
      rw [if_neg (by omega), q_div (by omega), q_mod (by omega), ei]
      refine ⟨by omega, by omega, ?_⟩
      have hA1 : a_ok ((tw_g S (a, b, c, Z)).2.2 9) ((tw_g S (a, b, c, Z)).1 24) := hA
      refine m_isVersion_ok hm hA1 (by omega) (rI_small (by omega) (by omega)) (rI_small (by omega) (by omega)) ?_
      have e9 : (tw_g S (a, b, c, Z)).2.2 9 = S.2.2 9 := rfl
      rw [e9]
      cases hv : a_isVer (S.2.2 9) (i / 10 : Nat) (i % 10 : Nat) with
      | false =>
        rw [if_neg (by decide)]
        refine ⟨by omega, by omega, ?_⟩
        rw [hz]
        exact step _ (by rw [hv]; rfl)
      | true =>
        rw [if_pos rfl]
        obtain ⟨v1, v2⟩ := a_isVer_r hA hv
        have hr := a_times_r (S.2.2 9) (i / 10 : Nat) (i % 10 : Nat) w
        have hv10 := (hA.2.2.1 _ v1.1 v1.2).2
        have hl := hA.2.2.2.1 _ _ v1.1 v1.2 v2.1 (by omega)
        refine m_timesIn_ok hm hA1 (by omega) v1 v2 (rI_small (by omega) (by omega)) ?_
        rw [e9]
        refine ⟨rI_small (by omega) (by omega), ?_⟩
        by_cases ht : a_times (S.2.2 9) (i / 10 : Nat) (i % 10 : Nat) w ≤ 0
        · rw [if_pos ht]
          refine ⟨by omega, by omega, ?_⟩
          rw [hz]
          exact step _ (by rw [hv, decide_eq_true ht]; rfl)
        · rw [if_neg ht]
          refine ⟨by omega, by omega, ?_⟩
          rw [hz]
          exact step _ (by rw [hv, decide_eq_false ht]; rfl)
    · intro Z hZ
      refine t_X2_noteFit_51 hm _ _ ⟨rI_small (by omega) (by omega), ?_⟩
      rw [if_pos (by decide)]
      exact ⟨rfl, _, rfl, H Z hZ⟩
  have fin : ∀ (b : Int), b = (if p.1 = k then w else p.2.1) → pw_Wp E m_X2_noteFit (e + 1) 51 [some (va_rf (some m)), some (.int (iI w)), none, some (.int (iI 0)), none, none] [] (tw w0 m (tw_g S (p.1 + 1, b, s_or p.2.2.1 (s_bit (s_wide 4 w / 19683)), p.2.2.2))) (c_v (t_u w0 m K)) := by
    intro b hb
    refine loop _ _ _ _ (fun Z hZ => ?_)
    rw [hb]
    have : Z = fun j => if j < 40 then p.2.2.2 j + (if h_in (S.2.2 9) w (j / 10 : Nat) (j % 10 : Nat) = true then 1 else 0) else p.2.2.2 j := funext hZ
    rw [this]
    exact H
  have e33 : ∀ x : Int, Int32.toInt (iI ((tw_g S p).1 33) ||| (1 <<< ((iI (s_wide 4 w)) / 19683 &&& 31))) = s_or p.2.2.1 (s_bit (s_wide 4 w / 19683)) := by
    intro x
    rw [q_divJ ⟨by omega, by omega⟩, s_orE]; rfl
  refine e_X2_noteFit _ _ _ (t_X2_noteFit_0 hm _ _ ⟨rI_small (x := p.1) (by omega) (by omega), hk, ?_⟩)
  by_cases h : p.1 = k
  · refine ifT h (m_widened_ok hm (by omega) hw ?_)
    rw [e33 0, tw_g_sf2, tw_g_sf1, tw_g_sf3]
    exact fin w (by rw [if_pos h])
  · refine ifF h (m_widened_ok hm (by omega) hw ?_)
    rw [e33 0, tw_g_sf2, tw_g_sf1, tw_g_sf3]
    exact fin _ (by rw [if_neg h]; rfl)
theorem m_findWords_ok {k : Int} {K : tw_S → Prop} (hm : pw_base E ≤ m) (hA : a_arok (S.2.2 9)) (h24 : S.1 24 = S.2.2 9 5) (hu : 0 ≤ S.1 30 ∧ S.1 30 ≤ 1) (hB : h_ok (S.2.2 8) (S.1 30)) (hd : 6 ≤ d) (hk : rI k) (H : ∀ X : Nat → Int, K (tw_g (tw_w S ((a_words (S.2.2 9) (S.2.2 9 5).toNat).length : Nat) X) (h_st (S.2.2 9) (S.2.2 8) (S.1 30) k (a_words (S.2.2 9) (S.2.2 9 5).toNat) (a_words (S.2.2 9) (S.2.2 9 5).toNat).length))) : pw_Cl E m_X2_findWords d [va_rf (some m), .int (iI k)] (tw w0 m S) (c_v (t_u w0 m K)) := by
  obtain ⟨e, rfl, he⟩ := pw_d1 hd
  have hA0 : a_ok (S.2.2 9) (S.1 24) := by rw [h24]; exact hA.ok
  have hn := hA.n
  have hn0 := hA.ok.2.1
  refine e_X2_findWords _ _ (t_X2_findWords_0 hm _ ?_)
  have e0 : tw_sf (tw_sf (tw_sf S 31 0) 32 (-2)) 33 0 = tw_g S (0, -2, 0, S.2.2 15) := by
    refine Prod.ext (funext fun i => ?_) (Prod.ext rfl (funext fun q => ?_))
    · show (if i = 33 then 0 else if i = 32 then -2 else if i = 31 then 0 else S.1 i) = if i = 31 then 0 else if i = 32 then -2 else if i = 33 then 0 else S.1 i
      by_cases h1 : i = 31
      · subst h1; rfl
      · by_cases h2 : i = 32
        · subst h2; rfl
        · rw [if_neg h1, if_neg h1, if_neg h2, if_neg h2]
    · show S.2.2 q = if q = 15 then S.2.2 15 else S.2.2 q
      split
      · rename_i h; rw [h]
      · rfl
  rw [e0]
  refine loop_up (n := 40) (P := fun i => ∀ Y : Nat → Int, (∀ j, j < i → Y j = 0) → pw_Wp E m_X2_findWords (e + 1) 18 [some (va_rf (some m)), some (.int (iI k)), some (.int (iI i))] [] (tw w0 m (tw_g S (0, -2, 0, Y))) (c_v (t_u w0 m K))) ?_ ?_ 0 (by omega) _ (fun j hj => absurd hj (Nat.not_lt_zero j))
  · intro i hi ih Y hY
    refine t_X2_findWords_18 hm _ _ ⟨rI_small (by omega) (by omega), ?_⟩
    rw [if_neg (by omega)]
    refine ⟨by omega, by omega, ?_⟩
    rw [tw_g_sa]
    refine ih _ (fun j hj => ?_)
    show (if j = Int.toNat (i : Int) then 0 else Y j) = 0
    split
    · rfl
    · exact hY j (by omega)
  · intro Y hY
    refine t_X2_findWords_18 hm _ _ ⟨rI_small (by omega) (by omega), ?_⟩
    rw [if_pos (by decide)]
    have hA1 : a_ok ((tw_g S (0, -2, 0, Y)).2.2 9) ((tw_g S (0, -2, 0, Y)).1 24) := hA0
    have hW : a_wok (S.2.2 9) (S.1 24) := by rw [h24]; exact hA.wok
    refine m_layWords_ok hm hA1 (by show S.1 24 < 320; omega) hW (by omega) (fun X hX => ?_)
    have e24 : (tw_g S (0, -2, 0, Y)).1 24 = S.2.2 9 5 := h24
    have e9 : (tw_g S (0, -2, 0, Y)).2.2 9 = S.2.2 9 := rfl
    rw [e24, e9] at hX
    rw [e24, e9, tw_g_w]
    obtain ⟨l1, l2⟩ := a_words_ok hA.wok (S.2.2 9 5).toNat (by omega)
    have H := H X
    generalize hl : a_words (S.2.2 9) (S.2.2 9 5).toNat = l at *
    -- the words, one by one; what was found is told by places below forty
    have main := loop_up (n := l.length) (P := fun i => ∀ p : Int × Int × Int × (Nat → Int), p.1 = (h_st (S.2.2 9) (S.2.2 8) (S.1 30) k l i).1 → p.2.1 = (h_st (S.2.2 9) (S.2.2 8) (S.1 30) k l i).2.1 → p.2.2.1 = (h_st (S.2.2 9) (S.2.2 8) (S.1 30) k l i).2.2.1 → (∀ j, j < 40 → p.2.2.2 j = (h_st (S.2.2 9) (S.2.2 8) (S.1 30) k l i).2.2.2 j) → pw_Wp E m_X2_findWords (e + 1) 43 [some (va_rf (some m)), some (.int (iI k)), some (.int (iI i))] [] (tw w0 m (tw_g (tw_w S (l.length : Nat) X) p)) (c_v (t_u w0 m K))) ?_ ?_ 0 (by omega)
    · exact main (0, -2, 0, Y) rfl rfl rfl (fun j hj => hY j hj)
    · intro i hi ih p p1 p2 p3 p4
      have hx : l[i]? = some l[i] := List.getElem?_eq_getElem hi
      have hg : l.getD i 0 = l[i] := by rw [List.getD_eq_getElem?_getD, hx]; rfl
      have hw := l1 _ (List.getElem_mem hi)
      obtain ⟨r1, r2, r3, r4⟩ := h_st_r (A := S.2.2 9) (B := S.2.2 8) (t := S.1 30) (k := k) l1 i (by omega)
      have e12 : (tw_g (tw_w S (l.length : Nat) X) p).2.2 12 (Int.toNat (i : Int)) = l[i] := hX i _ hx
      have e25 : (tw_g (tw_w S (l.length : Nat) X) p).1 25 = (l.length : Nat) := rfl
      refine t_X2_findWords_43 hm _ _ ?_
      rw [e25]
      refine ⟨rI_small (by omega) (by omega), rI_small (by omega) (by omega), ?_⟩
      rw [if_neg (by omega)]
      refine ⟨by omega, by omega, ?_⟩
      rw [e12]
      refine m_isSo_ok hm hA0 hu hB (by omega) (rI_small (by omega) (by omega)) ?_
      have es : h_isSo ((tw_g (tw_w S (l.length : Nat) X) p).2.2 9) ((tw_g (tw_w S (l.length : Nat) X) p).2.2 8) ((tw_g (tw_w S (l.length : Nat) X) p).1 30) l[i] = h_isSo (S.2.2 9) (S.2.2 8) (S.1 30) l[i] := rfl
      rw [es]
      have est : h_st (S.2.2 9) (S.2.2 8) (S.1 30) k l (i + 1) = if h_isSo (S.2.2 9) (S.2.2 8) (S.1 30) (l.getD i 0) = true then ((h_st (S.2.2 9) (S.2.2 8) (S.1 30) k l i).1 + 1, if (h_st (S.2.2 9) (S.2.2 8) (S.1 30) k l i).1 = k then l.getD i 0 else (h_st (S.2.2 9) (S.2.2 8) (S.1 30) k l i).2.1, s_or (h_st (S.2.2 9) (S.2.2 8) (S.1 30) k l i).2.2.1 (s_bit (s_wide 4 (l.getD i 0) / 19683)), fun j => if j < 40 then (h_st (S.2.2 9) (S.2.2 8) (S.1 30) k l i).2.2.2 j + (if h_in (S.2.2 9) (l.getD i 0) (j / 10 : Nat) (j % 10 : Nat) = true then 1 else 0) else (h_st (S.2.2 9) (S.2.2 8) (S.1 30) k l i).2.2.2 j) else h_st (S.2.2 9) (S.2.2 8) (S.1 30) k l i := rfl
      rw [hg] at est
      by_cases hso : h_isSo (S.2.2 9) (S.2.2 8) (S.1 30) l[i] = true
      · rw [if_pos hso]
        rw [if_pos hso] at est
        refine ⟨by omega, by omega, ?_⟩
        rw [e12]
        refine m_noteFit_ok hm hA0 (by omega) hw hk ⟨by omega, by omega⟩ (ih _ ?_ ?_ ?_ (fun j hj => ?_))
        · rw [est, p1]
        · rw [est, p1, p2]
        · rw [est, p3]
        · rw [est]
          show (if j < 40 then p.2.2.2 j + _ else p.2.2.2 j) = if j < 40 then _ else _
          rw [if_pos hj, if_pos hj, p4 j hj]
          rfl
      · rw [if_neg hso]
        rw [if_neg hso] at est
        exact ih p (by rw [est]; exact p1) (by rw [est]; exact p2) (by rw [est]; exact p3) (fun j hj => by rw [est]; exact p4 j hj)
    · intro p p1 p2 p3 p4
      have e25 : (tw_g (tw_w S (l.length : Nat) X) p).1 25 = (l.length : Nat) := rfl
      refine t_X2_findWords_43 hm _ _ ?_
      rw [e25]
      refine ⟨rI_small (by omega) (by omega), rI_small (by omega) (by omega), ?_⟩
      rw [if_pos (by omega)]
      refine ⟨rfl, tw_g (tw_w S (l.length : Nat) X) (h_st (S.2.2 9) (S.2.2 8) (S.1 30) k l l.length), ?_, H⟩
      refine tw_ext (funext fun i => ?_) rfl (fun q i hi => ?_)
      · show (if i = 31 then p.1 else if i = 32 then p.2.1 else if i = 33 then p.2.2.1 else _) = if i = 31 then (h_st (S.2.2 9) (S.2.2 8) (S.1 30) k l l.length).1 else if i = 32 then (h_st (S.2.2 9) (S.2.2 8) (S.1 30) k l l.length).2.1 else if i = 33 then (h_st (S.2.2 9) (S.2.2 8) (S.1 30) k l l.length).2.2.1 else _
        rw [p1, p2, p3]
      · show (if q = 15 then p.2.2.2 else _) i = (if q = 15 then (h_st (S.2.2 9) (S.2.2 8) (S.1 30) k l l.length).2.2.2 else _) i
        by_cases hq : q = 15
        · subst hq
          rw [if_pos rfl, if_pos rfl]
          exact p4 i hi
        · rw [if_neg hq, if_neg hq]
end
