set_option maxRecDepth 100000
/-! the component: the queue's add and poll -/
def c_pq (h : pw_H) (q ar c : Nat) (A : Nat → Nat) (g : Nat → Option Nat) (m : Nat) (mc : Int32) : Prop := h q = some (27, [va_rf (some ar), .int (iI (m : Nat)), va_rf (some c), .int mc]) ∧ h ar = some (pq_ar A g) ∧ h c = some (14, [])
def pq_dn (r : Nat → Nat) (m x : Nat) (g : Nat → Option Nat) : Nat → Option Nat :=
  if m < 2 then pq_set g 0 (some x)
  else if m = 2 then (if r ((g 1).getD 0) < r x then pq_set (pq_set g 0 (g 1)) 1 (some x) else pq_set g 0 (some x))
  else if r ((g 2).getD 0) < r ((g 1).getD 0) then (if r ((g 2).getD 0) < r x then pq_set (pq_set g 0 (g 2)) 2 (some x) else pq_set g 0 (some x))
  else (if r ((g 1).getD 0) < r x then pq_set (pq_set g 0 (g 1)) 1 (some x) else pq_set g 0 (some x))
def pq_poll (r : Nat → Nat) (m : Nat) (g : Nat → Option Nat) : Nat → Option Nat := if m = 1 then pq_set g 0 none else pq_dn r (m - 1) ((g (m - 1)).getD 0) (pq_set g (m - 1) none)
section
variable {E : pw_E} {d : Nat} {w : pw_W} {A : Nat → Nat} {B : Nat → Int} {Z : Nat → Bool} {r : Nat → Nat} {n m q c : Nat} {g : Nat → Option Nat} {ar : Nat} {mc : Int32}
theorem c_pq.ne {h : pw_H} (k : c_pq h q ar c A g m mc) : q ≠ ar ∧ q ≠ c ∧ ar ≠ c := by
  obtain ⟨h1, h2, h3⟩ := k
  refine ⟨?_, ?_, ?_⟩
  · rintro rfl; rw [h1] at h2; cases h2
  · rintro rfl; rw [h1] at h3; cases h3
  · rintro rfl; rw [h2] at h3; cases h3
theorem pq_it.nq {h : pw_H} {a k : Nat} {us : List Value} (hit : pq_it h A B Z n) (ha : h a = some (k, us)) (hk : k ≠ 15) : ∀ i, i < n → A i ≠ a := by
  rintro i hi rfl
  rw [hit i hi] at ha
  cases ha
  exact hk rfl
theorem pq_it.cx {w' : pw_W} {F : Nat → Prop} {cc : Nat} (hit : pq_it w.1 A B Z n) (k : cx E w w' F cc) (hF : ∀ i, i < n → ¬ F (A i)) : pq_it w'.1 A B Z n := fun i hi => k.keep (hit i hi) (hF i hi)
theorem pq_add_ok {x : Nat} {K : Bool → pw_W → Prop} (hd : 9 ≤ d) (hw : wf E w) (hq : c_pq w.1 q ar c A g m mc) (hbq : pw_base E ≤ q) (hba : pw_base E ≤ ar) (hit : pq_it w.1 A B Z n) (hr : r_ok B Z r n) (hx : x < n) (hm : m < 11) (hg : pq_in g m n)
    (H : ∀ u' mc', cx E w u' (fun a => a = q ∨ a = ar) 0 → u'.2 = w.2 → c_pq u'.1 q ar c A (pq_up r m m x g) (m + 1) mc' → K true u') : pw_Cl E m_J31_add d [va_rf (some q), va_rf (some (A x))] w (c_z K) := by
  obtain ⟨n1, n2, n3⟩ := hq.ne
  obtain ⟨h1, h2, h3⟩ := hq
  replace hd := pw_d1 hd; obtain ⟨e, rfl, hd⟩ := hd
  refine e_J31_add _ _ (s_J31_add_0 _ _ ⟨q, _, rfl, h1, ?_⟩)
  replace hd := pw_d1 hd; obtain ⟨e, rfl, hd⟩ := hd
  have c1 : cx E w (pw_up w q (27, [va_rf (some ar), .int (iI (m : Nat)), va_rf (some c), .int (mc + 1)])) (fun a => a = q ∨ a = ar) 0 := cx.up hw _ h1 hbq (Or.inl rfl)
  have g1 : (pw_up w q (27, [va_rf (some ar), .int (iI (m : Nat)), va_rf (some c), .int (mc + 1)])).1 q = some (27, [va_rf (some ar), .int (iI (m : Nat)), va_rf (some c), .int (mc + 1)]) := pw_up_1 _ _ _
  have g2 : (pw_up w q (27, [va_rf (some ar), .int (iI (m : Nat)), va_rf (some c), .int (mc + 1)])).1 ar = some (pq_ar A g) := by rw [pw_up_ne (Ne.symm n1)]; exact h2
  have g3 : (pw_up w q (27, [va_rf (some ar), .int (iI (m : Nat)), va_rf (some c), .int (mc + 1)])).1 c = some (14, []) := by rw [pw_up_ne (Ne.symm n2)]; exact h3
  have git : pq_it (pw_up w q (27, [va_rf (some ar), .int (iI (m : Nat)), va_rf (some c), .int (mc + 1)])).1 A B Z n := hit.cx (cx.up hw _ h1 hbq (F := fun a => a = q) rfl) (fun i hi z => hit.nq h1 (by decide) i hi z)
  refine e_J31_offer _ _ (s_J31_offer_0 _ _ (ifF (by simp) ⟨q, _, _, rfl, h1, rfl, q, _, rfl, h1, hbq, q, _, _, rfl, g1, rfl, q, _, _, rfl, g1, rfl, ?_⟩))
  refine ⟨ar, 3, _, _, rfl, g2, rfl, ?_⟩
  rw [iI_ofNat]
  refine ifT (by rw [iI_ltn (by omega) (by simp)]; simp; omega) ⟨q, _, rfl, g1, ?_⟩
  replace hd := pw_d1 hd; obtain ⟨e, rfl, hd⟩ := hd
  refine e_J31_siftUp _ _ _ (s_J31_siftUp_0 _ _ _ ⟨q, _, _, rfl, g1, rfl, ifF (by simp) ⟨q, _, _, rfl, g1, rfl, q, _, _, rfl, g1, rfl, ?_⟩⟩)
  replace hd := pw_d1 hd; obtain ⟨e, rfl, hd⟩ := hd
  refine e_J31_siftUpUsingComparator _ _ _ _ (pq_up_ok (by omega) hba hr hx m m g _ (Nat.le_refl _) hm c1.ok g2 g3 git hg (fun u' c2 e2 h4 => ⟨rfl, ?_⟩))
  have k1 := c2.keep g1 n1
  have k3 := c2.keep g3 (Ne.symm n3)
  have k4 : cx E w u' (fun a => a = q ∨ a = ar) 0 := (c1.tr (c2.mono (fun a _ _ z => Or.inr z) (Nat.le_refl _))).le (by omega)
  refine ⟨q, _, rfl, k1, hbq, ⟨_, rfl, true, rfl, H _ (mc + 1) ((k4.tr (cx.up k4.ok _ k1 hbq (Or.inl rfl))).le (by omega)) e2 ⟨?_, ?_, ?_⟩⟩⟩
  · rw [iI_ad1]; exact pw_up_1 _ _ _
  · rw [pw_up_ne (Ne.symm n1)]; exact h4
  · rw [pw_up_ne (Ne.symm n2)]; exact k3
theorem pq_dn_ok {x : Nat} {K : pw_W → Prop} (hd : 5 ≤ d) (hw : wf E w) (hb : pw_base E ≤ ar) (ha : w.1 ar = some (pq_ar A g)) (hc : w.1 c = some (14, [])) (hit : pq_it w.1 A B Z n) (hr : r_ok B Z r n) (hx : x < n) (hm : 1 ≤ m ∧ m ≤ 3) (hg : ∀ i, 1 ≤ i → i < m → ∃ y, g i = some y ∧ y < n)
    (H : ∀ u', cx E w u' (fun a => a = ar) 0 → u'.2 = w.2 → u'.1 ar = some (pq_ar A (pq_dn r m x g)) → K u') : pw_Cl E m_J31_siftDownUsingComparator d [.int 0, va_rf (some (A x)), va_rf (some ar), .int (iI (m : Nat)), va_rf (some c)] w (c_v K) := by
  replace hd := pw_d1 hd; obtain ⟨e, rfl, hd⟩ := hd
  have hit1 := hit x hx
  refine e_J31_siftDownUsingComparator _ _ _ _ _ (s_J31_siftDownUsingComparator_0 _ _ _ _ _ ?_)
  have put : ∀ (u : pw_W) (g' : Nat → Option Nat) (k : Nat) (R : pw_W → Prop) (y : Nat), k < 11 → wf E u → u.1 ar = some (pq_ar A g') → (∃ us, u.1 (A y) = some (15, us)) → (cx E u (pw_up u ar (pq_ar A (pq_set g' k (some y)))) (fun a => a = ar) 0 → R (pw_up u ar (pq_ar A (pq_set g' k (some y))))) → f_astr E u (some ar) (iI (k : Nat)) (some (A y)) R := by
    intro u g' k R y hk hu hu2 hy hR
    exact pa_st (x := some y) hu2 hb hk (fun j e => by cases e; exact hy) (hR (cx.up hu _ hu2 hb rfl))
  have hcne : c ≠ ar := by rintro rfl; rw [hc] at ha; cases ha
  have fin0 : pq_dn r m x g = pq_set g 0 (some x) → f_astr E w (some ar) (iI ((0 : Nat) : Int)) (some (A x)) (fun w5 => c_v K (.inl none) w5) := fun hh => put w g 0 _ x (by omega) hw ha ⟨_, hit1⟩ (fun cc => ⟨rfl, H _ cc rfl (by rw [hh]; exact pw_up_1 _ _ _)⟩)
  have fin1 : ∀ k y : Nat, 1 ≤ k → k < 11 → y < n → g k = some y → pq_dn r m x g = pq_set (pq_set g 0 (g k)) k (some x) → (∀ u : pw_W, u.1 ar = some (pq_ar A (pq_set g 0 (g k))) → wf E u → (∃ us, u.1 (A x) = some (15, us)) → cx E w u (fun a => a = ar) 0 → u.2 = w.2 → pw_Wp E m_J31_siftDownUsingComparator (e + 1) 5 [some (.int (iI (k : Nat))), some (va_rf (some (A x))), some (va_rf (some ar)), some (.int (iI (m : Nat))), some (va_rf (some c)), some (.int 1), none, none, none] [] u (c_v K)) → f_astr E w (some ar) (iI ((0 : Nat) : Int)) (some (A y)) (fun w20 => pw_Wp E m_J31_siftDownUsingComparator (e + 1) 5 [some (.int (iI (k : Nat))), some (va_rf (some (A x))), some (va_rf (some ar)), some (.int (iI (m : Nat))), some (va_rf (some c)), some (.int 1), none, none, none] [] w20 (c_v K)) := by
    intro k y hk1 hk2 hy hgk hh hR
    refine put w g 0 _ y (by omega) hw ha ⟨_, hit y hy⟩ (fun cc => hR _ (by rw [hgk]; exact pw_up_1 _ _ _) cc.ok ⟨_, hit.up ha x hx⟩ cc rfl)
  have last : ∀ k : Nat, 1 ≤ k → k < 11 → (iI 1 ≤ iI (k : Nat)) → pq_dn r m x g = pq_set (pq_set g 0 (g k)) k (some x) → ∀ u : pw_W, u.1 ar = some (pq_ar A (pq_set g 0 (g k))) → wf E u → (∃ us, u.1 (A x) = some (15, us)) → cx E w u (fun a => a = ar) 0 → u.2 = w.2 → pw_Wp E m_J31_siftDownUsingComparator (e + 1) 5 [some (.int (iI (k : Nat))), some (va_rf (some (A x))), some (va_rf (some ar)), some (.int (iI (m : Nat))), some (va_rf (some c)), some (.int 1), none, none, none] [] u (c_v K) := by
    intro k hk1 hk2 hle hh u hu1 hu2 hu3 cu nu
    exact s_J31_siftDownUsingComparator_5 _ _ _ _ _ _ (ifT hle (put u _ k _ x hk2 hu2 hu1 hu3 (fun cc => ⟨rfl, H _ ((cu.tr cc).le (by omega)) nu (by rw [hh]; exact pw_up_1 _ _ _)⟩)))
  have cmp : ∀ (i j : Nat) (Q : Int32 → pw_W → Prop), i < n → j < n → Q (iI (r_cmp B Z i j)) w → f_V E w (some c) 14 m_X15_compare e [va_rf (some (A i)), va_rf (some (A j))] (c_i Q) := fun i j Q hi hj hQ => r_cmp_ok (by omega) hc hit hr hi hj hQ
  have pos : ∀ i j : Nat, i < n → j < n → ((0 : Int32) < iI (r_cmp B Z i j)) = (r j < r i) := by
    intro i j hi hj
    have hrr := r_cmp_r hr hi hj
    have m1 : (iI 0 < iI (r_cmp B Z i j)) = (0 < r_cmp B Z i j) := iI_lt (a := 0) (rI_small (by omega) (by omega)) (rI_small (by omega) (by omega))
    rw [show (0 : Int32) = iI 0 from rfl, m1]
    exact propext (hr.2.2 i j hi hj).2
  have npos : ∀ i j : Nat, i < n → j < n → (iI (r_cmp B Z i j) ≤ (0 : Int32)) = ¬ (r j < r i) := by
    intro i j hi hj
    rw [← pos i j hi hj]
    exact propext Int32.not_lt.symm
  obtain ⟨m1, m2⟩ := hm
  by_cases q1 : m = 1
  · subst q1
    have hh : pq_dn r 1 x g = pq_set g 0 (some x) := rfl
    exact s_J31_siftDownUsingComparator_5 _ _ _ _ _ _ (ifT (by decide) (fin0 hh))
  obtain ⟨y1, hy1, hn1⟩ := hg 1 (Nat.le_refl _) (by omega)
  by_cases q2 : m = 2
  · subst q2
    have hh : pq_dn r 2 x g = if r y1 < r x then pq_set (pq_set g 0 (g 1)) 1 (some x) else pq_set g 0 (some x) := by
      unfold pq_dn
      rw [if_neg (by omega), if_pos rfl, hy1]
      rfl
    refine s_J31_siftDownUsingComparator_5 _ _ _ _ _ _ (ifF (by decide) ?_)
    show f_aldr w (some ar) (iI ((1 : Nat) : Int)) _
    refine pa_ld ha (by omega) ?_
    rw [hy1]
    refine ifT (by decide) (cmp x y1 _ hx hn1 ?_)
    by_cases z : r y1 < r x
    · rw [if_pos z] at hh
      exact ifT (by rw [pos x y1 hx hn1]; exact z) (fin1 1 y1 (by omega) (by omega) hn1 hy1 hh (last 1 (by omega) (by omega) (by decide) hh))
    · rw [if_neg z] at hh
      exact ifF (by rw [pos x y1 hx hn1]; exact z) (fin0 hh)
  · have q3 : m = 3 := by omega
    subst q3
    obtain ⟨y2, hy2, hn2⟩ := hg 2 (by omega) (by omega)
    have hh : pq_dn r 3 x g = if r y2 < r y1 then (if r y2 < r x then pq_set (pq_set g 0 (g 2)) 2 (some x) else pq_set g 0 (some x)) else (if r y1 < r x then pq_set (pq_set g 0 (g 1)) 1 (some x) else pq_set g 0 (some x)) := by
      unfold pq_dn
      rw [if_neg (by omega), if_neg (by omega), hy1, hy2]
      rfl
    refine s_J31_siftDownUsingComparator_5 _ _ _ _ _ _ (ifF (by decide) ?_)
    show f_aldr w (some ar) (iI ((1 : Nat) : Int)) _
    refine pa_ld ha (by omega) ?_
    rw [hy1]
    refine ifF (by decide) ?_
    show f_aldr w (some ar) (iI ((2 : Nat) : Int)) _
    refine pa_ld ha (by omega) ?_
    rw [hy2]
    refine cmp y1 y2 _ hn1 hn2 ?_
    by_cases z2 : r y2 < r y1
    · rw [if_pos z2] at hh
      refine ifF (by rw [npos y1 y2 hn1 hn2]; exact fun t => t z2) ?_
      show f_aldr w (some ar) (iI ((2 : Nat) : Int)) _
      refine pa_ld ha (by omega) ?_
      rw [hy2]
      refine cmp x y2 _ hx hn2 ?_
      by_cases z : r y2 < r x
      · rw [if_pos z] at hh
        exact ifT (by rw [pos x y2 hx hn2]; exact z) (fin1 2 y2 (by omega) (by omega) hn2 hy2 hh (last 2 (by omega) (by omega) (by decide) hh))
      · rw [if_neg z] at hh
        exact ifF (by rw [pos x y2 hx hn2]; exact z) (fin0 hh)
    · rw [if_neg z2] at hh
      refine ifT (by rw [npos y1 y2 hn1 hn2]; exact z2) (cmp x y1 _ hx hn1 ?_)
      by_cases z : r y1 < r x
      · rw [if_pos z] at hh
        exact ifT (by rw [pos x y1 hx hn1]; exact z) (fin1 1 y1 (by omega) (by omega) hn1 hy1 hh (last 1 (by omega) (by omega) (by decide) hh))
      · rw [if_neg z] at hh
        exact ifF (by rw [pos x y1 hx hn1]; exact z) (fin0 hh)
theorem pq_poll_ok {K : Option Nat → pw_W → Prop} (hd : 7 ≤ d) (hw : wf E w) (hq : c_pq w.1 q ar c A g m mc) (hbq : pw_base E ≤ q) (hba : pw_base E ≤ ar) (hit : pq_it w.1 A B Z n) (hr : r_ok B Z r n) (hm : 1 ≤ m ∧ m ≤ 4) (hg : pq_in g m n)
    (H : ∀ u' mc' y, g 0 = some y → y < n → cx E w u' (fun a => a = q ∨ a = ar) 0 → u'.2 = w.2 → c_pq u'.1 q ar c A (pq_poll r m g) (m - 1) mc' → K (some (A y)) u') : pw_Cl E m_J31_poll d [va_rf (some q)] w (c_r K) := by
  obtain ⟨n1, n2, n3⟩ := hq.ne
  obtain ⟨h1, h2, h3⟩ := hq
  replace hd := pw_d1 hd; obtain ⟨e, rfl, hd⟩ := hd
  obtain ⟨y0, hy0, hn0⟩ := hg 0 (by omega)
  obtain ⟨yl, hyl, hnl⟩ := hg (m - 1) (by omega)
  refine e_J31_poll _ (s_J31_poll_0 _ ⟨q, _, _, rfl, h1, rfl, ?_⟩)
  show f_aldr w (some ar) (iI ((0 : Nat) : Int)) _
  refine pa_ld h2 (by omega) ?_
  rw [hy0]
  have c1 : cx E w (pw_up w q (27, [va_rf (some ar), .int (iI (m : Nat)), va_rf (some c), .int (mc + 1)])) (fun a => a = q ∨ a = ar) 0 := cx.up hw _ h1 hbq (Or.inl rfl)
  have g1 : (pw_up w q (27, [va_rf (some ar), .int (iI (m : Nat)), va_rf (some c), .int (mc + 1)])).1 q = some (27, [va_rf (some ar), .int (iI (m : Nat)), va_rf (some c), .int (mc + 1)]) := pw_up_1 _ _ _
  have em : iI (m : Nat) - 1 = iI ((m - 1 : Nat) : Int) := by
    have : iI (m : Nat) - iI 1 = _ := iI_sub _ 1
    rw [show ((m - 1 : Nat) : Int) = (m : Int) - 1 by omega]
    exact this
  refine ifF (by simp) ⟨q, _, _, rfl, h1, rfl, q, _, rfl, h1, hbq, q, _, _, rfl, g1, rfl, ?_⟩
  simp only [em, List.set_cons_succ, List.set_cons_zero]
  have c2 : cx E (pw_up w q (27, [va_rf (some ar), .int (iI (m : Nat)), va_rf (some c), .int (mc + 1)])) (pw_up (pw_up w q (27, [va_rf (some ar), .int (iI (m : Nat)), va_rf (some c), .int (mc + 1)])) q (27, [va_rf (some ar), .int (iI ((m - 1 : Nat) : Int)), va_rf (some c), .int (mc + 1)])) (fun a => a = q ∨ a = ar) 0 := cx.up c1.ok _ g1 hbq (Or.inl rfl)
  have c12 := (c1.tr c2).le (show 0 + 0 ≤ 0 by omega)
  have k1 : (pw_up (pw_up w q (27, [va_rf (some ar), .int (iI (m : Nat)), va_rf (some c), .int (mc + 1)])) q (27, [va_rf (some ar), .int (iI ((m - 1 : Nat) : Int)), va_rf (some c), .int (mc + 1)])).1 q = some (27, [va_rf (some ar), .int (iI ((m - 1 : Nat) : Int)), va_rf (some c), .int (mc + 1)]) := pw_up_1 _ _ _
  have k2 : (pw_up (pw_up w q (27, [va_rf (some ar), .int (iI (m : Nat)), va_rf (some c), .int (mc + 1)])) q (27, [va_rf (some ar), .int (iI ((m - 1 : Nat) : Int)), va_rf (some c), .int (mc + 1)])).1 ar = some (pq_ar A g) := by rw [pw_up_ne (Ne.symm n1), pw_up_ne (Ne.symm n1)]; exact h2
  have k3 : (pw_up (pw_up w q (27, [va_rf (some ar), .int (iI (m : Nat)), va_rf (some c), .int (mc + 1)])) q (27, [va_rf (some ar), .int (iI ((m - 1 : Nat) : Int)), va_rf (some c), .int (mc + 1)])).1 c = some (14, []) := by rw [pw_up_ne (Ne.symm n2), pw_up_ne (Ne.symm n2)]; exact h3
  have kit : pq_it (pw_up (pw_up w q (27, [va_rf (some ar), .int (iI (m : Nat)), va_rf (some c), .int (mc + 1)])) q (27, [va_rf (some ar), .int (iI ((m - 1 : Nat) : Int)), va_rf (some c), .int (mc + 1)])).1 A B Z n := by
    intro i hi
    rw [pw_up_ne (hit.nq h1 (by decide) i hi), pw_up_ne (hit.nq h1 (by decide) i hi)]
    exact hit i hi
  have e2 : (pw_up (pw_up w q (27, [va_rf (some ar), .int (iI (m : Nat)), va_rf (some c), .int (mc + 1)])) q (27, [va_rf (some ar), .int (iI ((m - 1 : Nat) : Int)), va_rf (some c), .int (mc + 1)])).2 = w.2 := rfl
  refine ⟨q, _, rfl, g1, hbq, ?_⟩
  simp only [List.set_cons_succ, List.set_cons_zero]
  show f_aldr (pw_up (pw_up w q (27, [va_rf (some ar), .int (iI (m : Nat)), va_rf (some c), .int (mc + 1)])) q (27, [va_rf (some ar), .int (iI ((m - 1 : Nat) : Int)), va_rf (some c), .int (mc + 1)])) (some ar) _ _
  generalize pw_up (pw_up w q (27, [va_rf (some ar), .int (iI (m : Nat)), va_rf (some c), .int (mc + 1)])) q (27, [va_rf (some ar), .int (iI ((m - 1 : Nat) : Int)), va_rf (some c), .int (mc + 1)]) = u at c12 k1 k2 k3 kit e2 ⊢
  clear c1 c2 g1
  refine pa_ld k2 (by omega) ?_
  rw [hyl]
  refine pa_st (x := none) k2 hba (by omega) (fun j e => by cases e) ?_
  have c3 : cx E u (pw_up u ar (pq_ar A (pq_set g (m - 1) none))) (fun a => a = q ∨ a = ar) 0 := cx.up c12.ok _ k2 hba (Or.inr rfl)
  have l1 : (pw_up u ar (pq_ar A (pq_set g (m - 1) none))).1 q = some (27, [va_rf (some ar), .int (iI ((m - 1 : Nat) : Int)), va_rf (some c), .int (mc + 1)]) := by rw [pw_up_ne n1]; exact k1
  have l3 : (pw_up u ar (pq_ar A (pq_set g (m - 1) none))).1 c = some (14, []) := by rw [pw_up_ne (Ne.symm n3)]; exact k3
  have e0 : (iI ((m - 1 : Nat) : Int) ≤ 0) = (m - 1 ≤ 0) := iI_len (b := 0) (by omega) (by omega)
  by_cases z : m = 1
  · refine ifT (by rw [e0]; omega) ⟨_, rfl, H _ (mc + 1) y0 hy0 hn0 ((c12.tr c3).le (by omega)) e2 ⟨l1, ?_, l3⟩⟩
    have : pq_poll r m g = pq_set g (m - 1) none := by subst z; rfl
    rw [this]
    exact pw_up_1 _ _ _
  · refine ifF (by rw [e0]; omega) ⟨q, _, _, rfl, l1, rfl, ifF (by simp) ?_⟩
    have hp : pq_poll r m g = pq_dn r (m - 1) yl (pq_set g (m - 1) none) := by
      unfold pq_poll
      rw [if_neg z, hyl]
      rfl
    refine pq_dn_ok (by omega) c3.ok hba (pw_up_1 _ _ _) l3 (kit.up k2) hr hnl (by omega) (fun i hi1 hi2 => ?_) (fun u' c4 e4 h4 => ⟨_, rfl, H u' (mc + 1) y0 hy0 hn0 (((c12.tr c3).tr (c4.mono (fun a _ _ z => Or.inr z) (Nat.le_refl _))).le (by omega)) (e4.trans e2) ⟨c4.keep l1 n1, by rw [hp]; exact h4, c4.keep l3 (Ne.symm n3)⟩⟩)
    obtain ⟨y, h5, h6⟩ := hg i (by omega)
    exact ⟨y, by show (if i = m - 1 then _ else _) = _; rw [if_neg (by omega)]; exact h5, h6⟩
end
