set_option maxRecDepth 100000
/-! the twin: version, life, dated, shared -/
section
variable {E : pw_E} {w0 : pw_W} {m d : Nat} {S : tw_S}
theorem m_lesser_ok {x k : Int} {K : Int → tw_S → Prop} (hm : pw_base E ≤ m) (hd : 1 ≤ d) (hx : rI x) (hk : rI k) (H : K (min x k) S) : pw_Cl E m_X2_lesser d [.int (iI x), .int (iI k)] (tw w0 m S) (c_i (t_i w0 m K)) := by
  obtain ⟨e, rfl, -⟩ := pw_d1 hd
  refine e_X2_lesser _ _ (t_X2_lesser_0 hm _ _ ⟨hk, hx, ?_⟩)
  by_cases h : k ≤ x
  · rw [if_pos h]; rw [Int.min_eq_right h] at H; exact ⟨_, rfl, _, S, rfl, rfl, H⟩
  · rw [if_neg h]; rw [Int.min_eq_left (by omega)] at H; exact ⟨_, rfl, _, S, rfl, rfl, H⟩
/-- the first number of a set, from v on -/
def s_firstF (x : Int) : Nat → Nat → Int
  | 0, v => v
  | f + 1, v => if s_has x v = true then v else s_firstF x f (v + 1)
def s_first (x : Int) : Int := s_firstF x 10 0
theorem m_firstIn_ok {x : Int} {K : Int → tw_S → Prop} (hm : pw_base E ≤ m) (hd : 2 ≤ d) (hx : ∃ k : Nat, k < 10 ∧ s_has x k = true) (H : K (s_first x) S) : pw_Cl E m_X2_firstIn d [.int (iI x)] (tw w0 m S) (c_i (t_i w0 m K)) := by
  obtain ⟨e, rfl, he⟩ := pw_d1 hd
  obtain ⟨k, hk, hh⟩ := hx
  refine e_X2_firstIn _ (t_X2_firstIn_0 hm _ ?_)
  have loop : ∀ (f v : Nat), v + f = 10 → v ≤ k → K (s_firstF x f v) S → pw_Wp E m_X2_firstIn (e + 1) 2 [some (.int (iI x)), some (.int (iI v))] [] (tw w0 m S) (c_i (t_i w0 m K)) := by
    intro f
    induction f with
    | zero => intro v hv hvk _; omega
    | succ f ih =>
      intro v hv hvk H
      refine t_X2_firstIn_2 hm _ _ (m_has_ok he ?_)
      unfold s_firstF at H
      refine ifS2 H (fun h H => ⟨_, rfl, _, S, rfl, rfl, H⟩) (fun h H => ?_)
      refine ih (v + 1) (by omega) ?_ H
      rcases Nat.lt_or_ge v k with h1 | h1
      · exact h1
      · exact absurd (by rw [show v = k by omega]; exact hh) h
  exact loop 10 0 rfl (Nat.zero_le _) H
theorem a_tok_has {A : Nat → Int} {n a v p : Int} (hA : a_ok A n) (hO : a_own A) (ha : 0 ≤ a ∧ a < 4) (hv : 0 ≤ v ∧ v < a_many A a) (hp : 0 ≤ p ∧ p < a_long A a v) : ∃ k : Nat, k < 10 ∧ s_has (a_where A (a_tok A a v p)) k = true := by
  have hv10 := (hA.2.2.1 a ha.1 ha.2).2
  refine ⟨v.toNat, by omega, ?_⟩
  rw [a_where_has hA (hA.2.2.2.2.1 a v p ha.1 ha.2 hv.1 hv.2 hp.1 hp.2) (by omega), hO a v p ha.1 ha.2 hv.1 hv.2 hp.1 hp.2]
  have e : ((v.toNat : Nat) : Int) = v := by omega
  have e2 : ((p.toNat : Nat) : Int) = p := by omega
  rw [e]
  have := a_place_ge (A := A) (d := a) (v := v) (u := a_tok A a v p) (p := p.toNat) (by omega) (by rw [e2])
  simp only [Bool.and_eq_true, decide_eq_true_eq, Bool.not_eq_true', decide_eq_false_iff_not]
  exact ⟨hv.2, by omega⟩
def a_version (A : Nat → Int) (d v q : Int) : Int := if a_isVer A d v = true then (if q < 10 then (if q = 0 then a_long A d v else if q = 1 then A (Int.toNat (6 + (10 * d + v))) else if q = 2 then a_fresh A d v else if q = 3 then a_lost A d v else if q = 4 then a_turned A d v else if q = 5 then (a_oldest A d v).1 else -1) else if a_long A d v ≤ q - 10 then -1 else a_wordAt A d v (q - 10)) else -1
theorem m_version_ok {x a v q : Int} {K : Int → tw_S → Prop} (hm : pw_base E ≤ m) (hI : tw_arok S) (hd : 7 ≤ d) (hx : rI x) (ha : rI a) (hv : rI v) (hq : rI q) (H : tq S K (if tw_isAr S x = true then a_version (tw_ar S x) a v q else -1)) : pw_Cl E m_X2_version d [va_rf (some m), .int (iI x), .int (iI a), .int (iI v), .int (iI q)] (tw w0 m S) (c_i (t_i w0 m K)) := by
  obtain ⟨e, rfl, he⟩ := pw_d1 hd
  refine e_X2_version _ _ _ _ _ (t_X2_version_0 hm _ _ _ _ (m_hand_k hm (by omega) hx (hI.same (tw_same.sf S 0 0)) ⟨fun h hA => ?_, fun h => ?_⟩))
  · have h : tw_isAr S x = true := h
    rw [tw_ar_sf] at hA
    rw [if_pos h] at H
    rw [if_pos rfl]
    have hs : tw_same S (tw_h (tw_sf S 0 0) x) := (tw_same.sf S 0 0).trans (tw_same.h _ x)
    have hA0 : a_ok ((tw_h (tw_sf S 0 0) x).2.2 9) ((tw_h (tw_sf S 0 0) x).1 24) := hA.ok
    refine m_isVersion_ok hm hA0 (by omega) ha hv (ifS H (fun h H => ?_) (fun h H => ⟨_, rfl, _, _, rfl, rfl, H _ hs⟩))
    obtain ⟨h1, h2⟩ := a_isVer_r hA0 h
    have hv10 := (hA0.2.2.1 a h1.1 h1.2).2
    have hl := hA0.2.2.2.1 a v h1.1 h1.2 h2.1 (by omega)
    refine ⟨hq, ifS H (fun h H => ⟨hq, ifS H (fun h H => ?_) (fun h H => ⟨hq, ifS H (fun h H => ?_) (fun h H => ⟨hq, ifS H (fun h H => ?_) (fun h H => ⟨hq, ifS H (fun h H => ?_) (fun h H => ⟨hq, ifS H (fun h H => ?_) (fun h H => ⟨hq, ifS H (fun h H => ?_) (fun h H => ?_)⟩)⟩)⟩)⟩)⟩)⟩) (fun h H => ?_)⟩
    · exact m_longOf_ok hm (by omega) h1 ⟨h2.1, by omega⟩ ⟨_, rfl, _, _, rfl, rfl, H _ hs⟩
    · exact m_at_ok hm (by omega) ⟨by omega, by omega, _, rfl, _, _, rfl, rfl, H _ hs⟩
    · exact m_fresh_ok hm hA0 (by omega) h1 h2 ⟨_, rfl, _, _, rfl, rfl, H _ hs⟩
    · exact m_lost_ok hm hA0 (by omega) h1 h2 ⟨_, rfl, _, _, rfl, rfl, H _ hs⟩
    · exact m_turned_ok hm hA0 (by omega) h1 h2 ⟨_, rfl, _, _, rfl, rfl, H _ hs⟩
    · exact m_oldest_ok hm hA0 (by omega) h1 h2 ⟨_, rfl, _, _, rfl, rfl, H _ hs⟩
    · exact ⟨_, rfl, _, _, rfl, rfl, H _ hs⟩
    · refine m_longOf_ok hm (by omega) h1 ⟨h2.1, by omega⟩ ⟨rI_small (by omega) (by omega), by have := hq.2; constructor <;> omega, ifS H (fun h H => ⟨_, rfl, _, _, rfl, rfl, H _ hs⟩) (fun h H => ?_)⟩
      have h9 : q - 10 < a_long ((tw_h (tw_sf S 0 0) x).2.2 9) a v := by omega
      exact m_wordAt_ok hm hA0 (by omega) h1 h2 ⟨by omega, h9⟩ ⟨_, rfl, _, _, rfl, rfl, H _ hs⟩
  · have h : tw_isAr S x = false := h
    rw [if_neg (by rw [h]; decide)] at H
    rw [if_neg (by decide)]
    exact ⟨_, rfl, _, _, rfl, rfl, H _ (tw_same.sf S 0 0)⟩
def a_life (A : Nat → Int) (d v p q : Int) : Int := if a_isVer A d v = true then (if decide (0 ≤ p ∧ p ≤ a_long A d v - 1) = true then (if q = 0 then s_first (a_where A (a_tok A d v p)) else if q = 1 then s_last (a_where A (a_tok A d v p)) else if q = 2 then s_ones (a_where A (a_tok A d v p)) else if q = 3 then a_rows (a_where A (a_tok A d v p)) else -1) else -1) else -1
theorem m_life_ok {x a v p q : Int} {K : Int → tw_S → Prop} (hm : pw_base E ≤ m) (hI : tw_arok S) (hd : 7 ≤ d) (hx : rI x) (ha : rI a) (hv : rI v) (hp : rI p) (hq : rI q) (H : tq S K (if tw_isAr S x = true then a_life (tw_ar S x) a v p q else -1)) : pw_Cl E m_X2_life d [va_rf (some m), .int (iI x), .int (iI a), .int (iI v), .int (iI p), .int (iI q)] (tw w0 m S) (c_i (t_i w0 m K)) := by
  obtain ⟨e, rfl, he⟩ := pw_d1 hd
  refine e_X2_life _ _ _ _ _ _ (t_X2_life_0 hm _ _ _ _ _ (m_hand_k hm (by omega) hx (hI.same (tw_same.sf S 0 0)) ⟨fun h hA => ?_, fun h => ?_⟩))
  · have h : tw_isAr S x = true := h
    rw [tw_ar_sf] at hA
    rw [if_pos h] at H
    rw [if_pos rfl]
    have hs : tw_same S (tw_h (tw_sf S 0 0) x) := (tw_same.sf S 0 0).trans (tw_same.h _ x)
    have hA0 : a_ok ((tw_h (tw_sf S 0 0) x).2.2 9) ((tw_h (tw_sf S 0 0) x).1 24) := hA.ok
    refine m_isVersion_ok hm hA0 (by omega) ha hv (ifS H (fun h H => ?_) (fun h H => ⟨_, rfl, _, _, rfl, rfl, H _ hs⟩))
    obtain ⟨h1, h2⟩ := a_isVer_r hA0 h
    have hv10 := (hA0.2.2.1 a h1.1 h1.2).2
    have hl := hA0.2.2.2.1 a v h1.1 h1.2 h2.1 (by omega)
    refine m_longOf_ok hm (by omega) h1 ⟨h2.1, by omega⟩ (m_in_ok hm (by omega) hp (rI_small (by omega) (by omega)) (rI_small (by omega) (by omega)) (ifS H (fun h H => ?_) (fun h H => ⟨_, rfl, _, _, rfl, rfl, H _ hs⟩)))
    have h3 : 0 ≤ p ∧ p ≤ a_long (tw_ar S x) a v - 1 := of_decide_eq_true h
    have h4 : 0 ≤ p ∧ p < a_long (tw_ar S x) a v := ⟨h3.1, by omega⟩
    have htk := hA0.2.2.2.2.1 a v p h1.1 h1.2 h2.1 h2.2 h4.1 h4.2
    have hl : 0 ≤ a_long (tw_ar S x) a v ∧ a_long (tw_ar S x) a v ≤ 20 := hl
    refine m_tokenAt_ok hm (by omega) h1 ⟨h2.1, by omega⟩ ⟨h4.1, by omega⟩ (m_whereIs_ok hm hA0 (by omega) htk ⟨hq, ifS H (fun h H => ?_) (fun h H => ⟨hq, ifS H (fun h H => ?_) (fun h H => ⟨hq, ifS H (fun h H => ?_) (fun h H => ⟨hq, ifS H (fun h H => ?_) (fun h H => ?_)⟩)⟩)⟩)⟩)
    · exact m_firstIn_ok hm (by omega) (a_tok_has hA.ok hA.own h1 h2 h4) ⟨_, rfl, _, _, rfl, rfl, H _ hs⟩
    · exact m_lastIn_ok hm (by omega) ⟨_, rfl, _, _, rfl, rfl, H _ hs⟩
    · exact m_ones_ok hm (by omega) ⟨_, rfl, _, _, rfl, rfl, H _ hs⟩
    · exact m_rowsIn_ok hm (by omega) ⟨_, rfl, _, _, rfl, rfl, H _ hs⟩
    · exact ⟨_, rfl, _, _, rfl, rfl, H _ hs⟩
  · have h : tw_isAr S x = false := h
    rw [if_neg (by rw [h]; decide)] at H
    rw [if_neg (by decide)]
    exact ⟨_, rfl, _, _, rfl, rfl, H _ (tw_same.sf S 0 0)⟩
/-- the document of a date -/
def a_dat (A : Nat → Int) (q : Int) : Nat → Nat → Int
  | 0, _ => -1
  | f + 1, i => if a_isVer A (i / 10 : Nat) (i % 10 : Nat) = true then (if A (6 + i) = q then ((i / 10 : Nat) : Int) else a_dat A q f (i + 1)) else a_dat A q f (i + 1)
theorem m_dated_ok {x q : Int} {K : Int → tw_S → Prop} (hm : pw_base E ≤ m) (hI : tw_arok S) (hd : 5 ≤ d) (hx : rI x) (hq : rI q) (H : tq S K (if tw_isAr S x = true then a_dat (tw_ar S x) q 40 0 else -1)) : pw_Cl E m_X2_dated d [va_rf (some m), .int (iI x), .int (iI q)] (tw w0 m S) (c_i (t_i w0 m K)) := by
  obtain ⟨e, rfl, he⟩ := pw_d1 hd
  refine e_X2_dated _ _ _ (t_X2_dated_0 hm _ _ (m_hand_k hm (by omega) hx (hI.same (tw_same.sf S 0 0)) ⟨fun h hA => ?_, fun h => ?_⟩))
  · have h : tw_isAr S x = true := h
    rw [tw_ar_sf] at hA
    rw [if_pos h] at H
    rw [if_pos rfl]
    have hs : tw_same S (tw_h (tw_sf S 0 0) x) := (tw_same.sf S 0 0).trans (tw_same.h _ x)
    have hA0 : a_ok ((tw_h (tw_sf S 0 0) x).2.2 9) ((tw_h (tw_sf S 0 0) x).1 24) := hA.ok
    have loop : ∀ (f i : Nat), i + f = 40 → tq S K (a_dat (tw_ar S x) q f i) → pw_Wp E m_X2_dated (e + 1) 17 [some (va_rf (some m)), none, some (.int (iI q)), some (.int (iI i))] [] (tw w0 m (tw_h (tw_sf S 0 0) x)) (c_i (t_i w0 m K)) := by
      intro f
      induction f with
      | zero =>
        intro i hi H
        refine t_X2_dated_17 hm _ _ ⟨rI_small (by omega) (by omega), ?_⟩
        rw [if_pos (by omega)]
        exact ⟨_, rfl, _, _, rfl, rfl, H _ hs⟩
      | succ f ih =>
        intro i hi H
        refine t_X2_dated_17 hm _ _ ⟨rI_small (by omega) (by omega), ?_⟩
        rw [if_neg (by omega), q_div (by omega), q_mod (by omega)]
        unfold a_dat at H
        refine m_isVersion_ok hm hA0 (by omega) (rI_small (by omega) (by omega)) (rI_small (by omega) (by omega)) (ifS H (fun h H => ?_) (fun h H => ih (i + 1) (by omega) H))
        have ei : Int.toNat (6 + (i : Int)) = 6 + i := by omega
        refine ⟨by omega, by omega, ?_, hq, ?_⟩
        · rw [ei]; exact hA.date i (by omega)
        · rw [ei]
          exact ifS H (fun h H => ⟨_, rfl, _, _, rfl, rfl, H _ hs⟩) (fun h H => ih (i + 1) (by omega) H)
    exact loop 40 0 rfl H
  · have h : tw_isAr S x = false := h
    rw [if_neg (by rw [h]; decide)] at H
    rw [if_neg (by decide)]
    exact ⟨_, rfl, _, _, rfl, rfl, H _ (tw_same.sf S 0 0)⟩
def a_shared (A : Nat → Int) (d a b : Int) : Int := upto (a_long A d a).toNat (fun p (n : Int) => n + (if a_place A d b (a_tok A d a p) = -1 then 0 else 1)) 0
theorem m_shared_ok {x y a b : Int} {K : Int → tw_S → Prop} (hm : pw_base E ≤ m) (hI : tw_arok S) (hd : 5 ≤ d) (hx : rI x) (hy : rI y) (ha : rI a) (hb : rI b) (H : tq S K (if tw_isAr S x = true then (if a_isVer (tw_ar S x) y a = true then (if a_isVer (tw_ar S x) y b = true then a_shared (tw_ar S x) y a b else -1) else -1) else -1)) : pw_Cl E m_X2_shared d [va_rf (some m), .int (iI x), .int (iI y), .int (iI a), .int (iI b)] (tw w0 m S) (c_i (t_i w0 m K)) := by
  obtain ⟨e, rfl, he⟩ := pw_d1 hd
  refine e_X2_shared _ _ _ _ _ (t_X2_shared_0 hm _ _ _ _ (m_hand_k hm (by omega) hx (hI.same (tw_same.sf S 0 0)) ⟨fun h hA => ?_, fun h => ?_⟩))
  · have h : tw_isAr S x = true := h
    rw [tw_ar_sf] at hA
    rw [if_pos h] at H
    rw [if_pos rfl]
    have hs : tw_same S (tw_h (tw_sf S 0 0) x) := (tw_same.sf S 0 0).trans (tw_same.h _ x)
    have hA0 : a_ok ((tw_h (tw_sf S 0 0) x).2.2 9) ((tw_h (tw_sf S 0 0) x).1 24) := hA.ok
    refine m_isVersion_ok hm hA0 (by omega) hy ha (ifS H (fun h H => ?_) (fun h H => ⟨_, rfl, _, _, rfl, rfl, H _ hs⟩))
    obtain ⟨h1, h2⟩ := a_isVer_r hA0 h
    refine m_isVersion_ok hm hA0 (by omega) hy hb (ifS H (fun h H => ?_) (fun h H => ⟨_, rfl, _, _, rfl, rfl, H _ hs⟩))
    obtain ⟨-, h3⟩ := a_isVer_r hA0 h
    have hv10 := (hA0.2.2.1 y h1.1 h1.2).2
    have hl := hA0.2.2.2.1 y a h1.1 h1.2 h2.1 (by omega)
    have hl : 0 ≤ a_long (tw_ar S x) y a ∧ a_long (tw_ar S x) y a ≤ 20 := hl
    refine loop_up (n := (a_long (tw_ar S x) y a).toNat) (P := fun k => pw_Wp E m_X2_shared (e + 1) 40 [some (va_rf (some m)), none, some (.int (iI y)), some (.int (iI a)), some (.int (iI b)), some (.int (iI (upto k (fun p (n : Int) => n + (if a_place (tw_ar S x) y b (a_tok (tw_ar S x) y a p) = -1 then 0 else 1)) 0))), some (.int (iI k))] [] (tw w0 m (tw_h (tw_sf S 0 0) x)) _) ?_ ?_ 0 (by omega)
    · intro k hk ih
      rw [upto_s] at ih
      refine t_X2_shared_40 hm _ _ _ _ _ (m_longOf_ok hm (by omega) h1 ⟨h2.1, by omega⟩ ⟨rI_small (by show -1000000000 ≤ a_long (tw_ar S x) y a; omega) (by show a_long (tw_ar S x) y a ≤ 1000000000; omega), rI_small (by omega) (by omega), ?_⟩)
      refine ifF (show ¬ a_long (tw_ar S x) y a ≤ (k : Int) by omega) ?_
      have htk := hA0.2.2.2.2.1 y a k h1.1 h1.2 h2.1 h2.2 (by omega) (show (k : Int) < a_long (tw_ar S x) y a by omega)
      have hn := hA.n
      have hn2 : (tw_h (tw_sf S 0 0) x).1 24 = tw_ar S x 5 := rfl
      have hpr := a_place_r (tw_ar S x) y b (a_tok (tw_ar S x) y a k)
      have hl2 := hA0.2.2.2.1 y b h1.1 h1.2 h3.1 (by omega)
      have hl2 : 0 ≤ a_long (tw_ar S x) y b ∧ a_long (tw_ar S x) y b ≤ 20 := hl2
      refine m_tokenAt_ok hm (by omega) h1 ⟨h2.1, by omega⟩ ⟨by omega, by omega⟩ (m_placeOf_ok hm hA0 (by omega) h1 h3 (rI_small (by omega) (by omega)) ⟨rI_small (by show -1000000000 ≤ a_place (tw_ar S x) y b (a_tok (tw_ar S x) y a k); omega) (by show a_place (tw_ar S x) y b (a_tok (tw_ar S x) y a k) ≤ 1000000000; omega), ?_⟩)
      by_cases h : a_place (tw_ar S x) y b (a_tok (tw_ar S x) y a k) = -1
      · refine ifT h ?_
        rw [if_pos h] at ih
        exact ih
      · refine ifF h ?_
        rw [if_neg h] at ih
        exact ih
    · refine t_X2_shared_40 hm _ _ _ _ _ (m_longOf_ok hm (by omega) h1 ⟨h2.1, by omega⟩ ⟨rI_small (by show -1000000000 ≤ a_long (tw_ar S x) y a; omega) (by show a_long (tw_ar S x) y a ≤ 1000000000; omega), rI_small (by omega) (by omega), ?_⟩)
      refine ifT (show a_long (tw_ar S x) y a ≤ (((a_long (tw_ar S x) y a).toNat : Nat) : Int) by omega) ?_
      exact ⟨_, rfl, _, _, rfl, rfl, H _ hs⟩
  · have h : tw_isAr S x = false := h
    rw [if_neg (by rw [h]; decide)] at H
    rw [if_neg (by decide)]
    exact ⟨_, rfl, _, _, rfl, rfl, H _ (tw_same.sf S 0 0)⟩
end
