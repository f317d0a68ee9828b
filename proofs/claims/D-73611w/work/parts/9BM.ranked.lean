set_option maxRecDepth 100000
/-! the component: documents ranked -/
def pq_b (r : Nat → Nat) (k : Nat) : Nat → Option Nat := upto k (fun j g => pq_up r j j j g) (fun _ => none)
def pq_p (r : Nat → Nat) (n k : Nat) : Nat → Option Nat := upto k (fun j g => pq_poll r (n - j) g) (pq_b r n)
def pq_has (g : Nat → Option Nat) (m n : Nat) : Bool := (List.range m).all (fun i => match g i with | some y => decide (y < n) | none => false)
def pq_good (r : Nat → Nat) (n : Nat) : Bool := (List.range (n + 1)).all (fun k => pq_has (pq_b r k) k k) && (List.range n).all (fun k => pq_has (pq_p r n k) (n - k) n && decide (r ((pq_p r n k 0).getD 0) = k))
def pq_tab (a b c d : Nat) (i : Nat) : Nat := if i = 0 then a else if i = 1 then b else if i = 2 then c else d
def pq_perm (r : Nat → Nat) (n : Nat) : Bool := (List.range n).all (fun i => decide (r i < n) && (List.range i).all (fun j => decide (r i ≠ r j)))
theorem pq_all4 : ∀ (n : Fin 5) (a b c d : Fin 4), pq_perm (pq_tab a b c d) n = true → pq_good (pq_tab a b c d) n = true := by decide +kernel
theorem pq_has_in {g : Nat → Option Nat} {m n : Nat} (h : pq_has g m n = true) : pq_in g m n := by
  intro i hi
  have := List.all_eq_true.mp h i (List.mem_range.mpr hi)
  cases hg : g i with
  | none => rw [hg] at this; cases this
  | some y => rw [hg] at this; exact ⟨y, rfl, of_decide_eq_true this⟩
section
variable {E : pw_E} {d : Nat} {p : pw_H} {L : List kE} {Ds : List dc} {u : pw_W} {th : Nat} {t : Int}
theorem rk_init_ok {a i nv : Nat} {s : Int} {x0 x1 x2 : Value} {K : pw_W → Prop} (hd : 4 ≤ d) (hw : wf E u) (ha : u.1 a = some (15, [x0, x1, x2])) (hb : pw_base E ≤ a) (hs : 0 ≤ s ∧ s < 1024)
    (H : ∀ u', cx E u u' (fun q => q = a) 0 → u'.2 = u.2 → u'.1 a = some (15, [.int (iI (i : Nat)), .int (iI (s_ones s)), .int (bI (s_has s ((nv : Int) - 1)))]) → K u') : pw_Cl E m_X16_init d [va_rf (some a), .int (iI (i : Nat)), .int (iI s), .int (iI (nv : Nat))] u (c_v K) := by
  replace hd := pw_d1 hd; obtain ⟨e, rfl, hd⟩ := hd
  have c1 : cx E u (pw_up u a (15, [.int (iI (i : Nat)), x1, x2])) (fun q => q = a) 0 := cx.up hw _ ha hb rfl
  have c2 : cx E _ (pw_up (pw_up u a (15, [.int (iI (i : Nat)), x1, x2])) a (15, [.int (iI (i : Nat)), .int (iI (s_ones s)), x2])) (fun q => q = a) 0 := cx.up c1.ok _ (pw_up_1 _ _ _) hb rfl
  have c3 : cx E _ (pw_up (pw_up (pw_up u a (15, [.int (iI (i : Nat)), x1, x2])) a (15, [.int (iI (i : Nat)), .int (iI (s_ones s)), x2])) a (15, [.int (iI (i : Nat)), .int (iI (s_ones s)), .int (bI (s_has s ((nv : Int) - 1)))])) (fun q => q = a) 0 := cx.up c2.ok _ (pw_up_1 _ _ _) hb rfl
  refine e_X16_init _ _ _ _ (s_X16_init_0 _ _ _ _ ⟨a, _, rfl, ha, hb, ?_⟩)
  refine c_bits_ok (by omega) hs ⟨a, _, rfl, pw_up_1 _ _ _, hb, ?_⟩
  have em : iI (nv : Nat) - 1 = iI ((nv : Int) - 1) := iI_sub _ 1
  rw [em]
  exact c_has_ok (by omega) ⟨a, _, rfl, pw_up_1 _ _ _, hb, ⟨rfl, H _ (((c1.tr c2).tr c3).le (by omega)) rfl (pw_up_1 _ _ _)⟩⟩
def dk_B (Ds : List dc) (φ : Nat → Nat → Bool) (i : Nat) : Int := s_ones (dk_set (φ i) (da_D Ds i).1.length)
def dk_Z (Ds : List dc) (φ : Nat → Nat → Bool) (i : Nat) : Bool := s_has (dk_set (φ i) (da_D Ds i).1.length) (((da_D Ds i).1.length : Int) - 1)
theorem r_ok.le {B : Nat → Int} {Z : Nat → Bool} {r : Nat → Nat} {n m : Nat} (h : r_ok B Z r n) (hm : m ≤ n) : r_ok B Z r m := ⟨by have := h.1; omega, fun i hi => h.2.1 i (by omega), fun i j hi hj => h.2.2 i j (by omega) (by omega)⟩
theorem ck_ranked_ok {k0 : Nat} {e0 : kE} {r : Nat → Nat} {K : Option Nat → pw_W → Prop} (hd : 110 ≤ d) (hQ : kQ E p th Ds t L) (hI : kI E p L u) (hn : L[k0]? = some e0) (hr : r_ok (dk_B Ds e0.2.2.2.2) (dk_Z Ds e0.2.2.2.2) r Ds.length) (hg : pq_good r Ds.length = true)
    (H : ∀ u' mc, kI E p L u' → cx E u u' (k_F L) 60 → u'.2.1 = u.2.1 + 3 + Ds.length → c_pq u'.1 u.2.1 (u.2.1 + 2) (u.2.1 + 1) (fun i => u.2.1 + 3 + i) (pq_b r Ds.length) Ds.length mc → pq_it u'.1 (fun i => u.2.1 + 3 + i) (dk_B Ds e0.2.2.2.2) (dk_Z Ds e0.2.2.2.2) Ds.length → K (some u.2.1) u') : pw_Cl E m_X13_ranked d [va_rf (some th), .int (iI (k0 : Nat))] u (c_r K) := by
  replace hd := pw_d1 hd; obtain ⟨e, rfl, hd⟩ := hd
  have hw := hI.1
  have hbb := hw.b
  have hl := hQ.D.1
  have c1 : cx E u (pw_new u (27, [va_rf none, .int 0, va_rf none, .int 0]) 4) c_no 8 := cx.new hw _ 4
  have c2 : cx E (pw_new u (27, [va_rf none, .int 0, va_rf none, .int 0]) 4) (pw_new (pw_new u (27, [va_rf none, .int 0, va_rf none, .int 0]) 4) (14, []) 0) c_no 4 := cx.new c1.ok _ 0
  refine e_X13_ranked _ _ (s_X13_ranked_0 _ _ ?_)
  show pw_Cl E m_X15_init e [va_rf (some (u.2.1 + 1))] (pw_new (pw_new u (27, [va_rf none, .int 0, va_rf none, .int 0]) 4) (14, []) 0) _
  have a1 : (pw_new (pw_new u (27, [va_rf none, .int 0, va_rf none, .int 0]) 4) (14, []) 0).1 u.2.1 = some (27, [va_rf none, .int 0, va_rf none, .int 0]) := c2.at (pw_new_1 _ _ _)
  have a2 : (pw_new (pw_new u (27, [va_rf none, .int 0, va_rf none, .int 0]) 4) (14, []) 0).1 (u.2.1 + 1) = some (14, []) := pw_new_1 (pw_new u (27, [va_rf none, .int 0, va_rf none, .int 0]) 4) (14, []) 0
  have c12 := c1.tr c2
  have n2 : (pw_new (pw_new u (27, [va_rf none, .int 0, va_rf none, .int 0]) 4) (14, []) 0).2.1 = u.2.1 + 2 := rfl
  obtain ⟨e1, rfl, hd1⟩ := pw_d1 (show 0 + 1 ≤ e by omega)
  refine e_X15_init _ (s_X15_init_0 _ ⟨rfl, ?_⟩)
  show pw_Cl E m_J31_init (e1 + 1) [va_rf (some u.2.1), va_rf (some (u.2.1 + 1))] (pw_new (pw_new u (27, [va_rf none, .int 0, va_rf none, .int 0]) 4) (14, []) 0) _
  generalize pw_new (pw_new u (27, [va_rf none, .int 0, va_rf none, .int 0]) 4) (14, []) 0 = w2 at a1 a2 c12 n2 ⊢
  clear c1 c2
  refine e_J31_init _ _ (s_J31_init_0 _ _ ?_)
  obtain ⟨e2, rfl, hd2⟩ := pw_d1 (show 0 + 1 ≤ e1 by omega)
  refine e_J31_init_2 _ _ _ (s_J31_init_2_0 _ _ _ ?_)
  obtain ⟨e3, rfl, hd3⟩ := pw_d1 (show 0 + 1 ≤ e2 by omega)
  refine e_J30_init _ (s_J30_init_0 _ ?_)
  obtain ⟨e4, rfl, hd4⟩ := pw_d1 (show 0 + 1 ≤ e3 by omega)
  refine e_J0_init _ (s_J0_init_0 _ ⟨rfl, ⟨rfl, ifT (by decide) ⟨by decide, by decide, ?_⟩⟩⟩)
  have earr : ∀ w : pw_W, pw_new w (1000 + 3, List.replicate (Int32.toNatClampNeg 11) (va_rf none)) (Int32.toNatClampNeg 11) = pw_new w (pq_ar (fun i => u.2.1 + 3 + i) (fun _ => none)) 11 := fun w => rfl
  rw [earr]
  have c3 : cx E w2 (pw_new w2 (pq_ar (fun i => u.2.1 + 3 + i) (fun _ => none)) 11) c_no 15 := cx.new c12.ok _ 11
  have b1 := c3.at a1
  have b2 := c3.at a2
  have b3 : (pw_new w2 (pq_ar (fun i => u.2.1 + 3 + i) (fun _ => none)) 11).1 (u.2.1 + 2) = some (pq_ar (fun i => u.2.1 + 3 + i) (fun _ => none)) := by rw [← n2]; exact pw_new_1 _ _ _
  have n3 : (pw_new w2 (pq_ar (fun i => u.2.1 + 3 + i) (fun _ => none)) 11).2.1 = u.2.1 + 3 := by show w2.2.1 + 1 = _; omega
  have c13 := c12.tr c3
  rw [n2]
  generalize pw_new w2 (pq_ar (fun i => u.2.1 + 3 + i) (fun _ => none)) 11 = w3 at b1 b2 b3 n3 c13 ⊢
  have c4 : cx E w3 (pw_up w3 u.2.1 (27, [va_rf (some (u.2.1 + 2)), .int 0, va_rf none, .int 0])) (fun q => q = u.2.1) 0 := cx.up c13.ok _ b1 hbb rfl
  have c5 : cx E (pw_up w3 u.2.1 (27, [va_rf (some (u.2.1 + 2)), .int 0, va_rf none, .int 0])) (pw_up (pw_up w3 u.2.1 (27, [va_rf (some (u.2.1 + 2)), .int 0, va_rf none, .int 0])) u.2.1 (27, [va_rf (some (u.2.1 + 2)), .int 0, va_rf (some (u.2.1 + 1)), .int 0])) (fun q => q = u.2.1) 0 := cx.up c4.ok _ (pw_up_1 _ _ _) hbb rfl
  refine ⟨u.2.1, _, rfl, b1, hbb, ⟨u.2.1, _, rfl, pw_up_1 _ _ _, hbb, ⟨rfl, rfl, ?_⟩⟩⟩
  show pw_Wp E m_X13_ranked _ 17 [some (va_rf (some th)), some (.int (iI (k0 : Nat))), some (va_rf (some u.2.1)), some (.int (iI ((0 : Nat) : Int)))] [] (pw_up (pw_up w3 u.2.1 (27, [va_rf (some (u.2.1 + 2)), .int 0, va_rf none, .int 0])) u.2.1 (27, [va_rf (some (u.2.1 + 2)), .int 0, va_rf (some (u.2.1 + 1)), .int 0])) _
  have d1 : (pw_up (pw_up w3 u.2.1 (27, [va_rf (some (u.2.1 + 2)), .int 0, va_rf none, .int 0])) u.2.1 (27, [va_rf (some (u.2.1 + 2)), .int 0, va_rf (some (u.2.1 + 1)), .int 0])).1 u.2.1 = some (27, [va_rf (some (u.2.1 + 2)), .int (iI ((0 : Nat) : Int)), va_rf (some (u.2.1 + 1)), .int 0]) := pw_up_1 _ _ _
  have d2 := c5.keep (c4.keep b2 (by omega)) (by omega)
  have d3 := c5.keep (c4.keep b3 (by omega)) (by omega)
  have n5 : (pw_up (pw_up w3 u.2.1 (27, [va_rf (some (u.2.1 + 2)), .int 0, va_rf none, .int 0])) u.2.1 (27, [va_rf (some (u.2.1 + 2)), .int 0, va_rf (some (u.2.1 + 1)), .int 0])).2.1 = u.2.1 + 3 := n3
  have c15 : cx E u (pw_up (pw_up w3 u.2.1 (27, [va_rf (some (u.2.1 + 2)), .int 0, va_rf none, .int 0])) u.2.1 (27, [va_rf (some (u.2.1 + 2)), .int 0, va_rf (some (u.2.1 + 1)), .int 0])) c_no 27 := (cx.tn hw (cx.tn hw c13 c4 (fun q z => Or.inr (by have z : q = u.2.1 := z; omega))) c5 (fun q z => Or.inr (by have z : q = u.2.1 := z; omega))).le (by omega)
  generalize pw_up (pw_up w3 u.2.1 (27, [va_rf (some (u.2.1 + 2)), .int 0, va_rf none, .int 0])) u.2.1 (27, [va_rf (some (u.2.1 + 2)), .int 0, va_rf (some (u.2.1 + 1)), .int 0]) = w5 at d1 d2 d3 n5 c15 ⊢
  clear c4 c5
  have nF : ∀ q : Nat, u.2.1 ≤ q → ¬ k_F L q := fun q hq z => by have := hI.lt z; omega
  have hI5 := hI.cx c15 (fun _ _ _ z => z) (fun _ _ z => z)
  have hbd := (Bool.and_eq_true _ _).mp hg
  have key : ∀ (f k : Nat) (v : pw_W) (mc : Int32), k + f = Ds.length → kI E p L v → cx E u v (k_F L) (27 + 8 * k) → v.2.1 = u.2.1 + 3 + k → c_pq v.1 u.2.1 (u.2.1 + 2) (u.2.1 + 1) (fun i => u.2.1 + 3 + i) (pq_b r k) k mc → pq_it v.1 (fun i => u.2.1 + 3 + i) (dk_B Ds e0.2.2.2.2) (dk_Z Ds e0.2.2.2.2) k → pw_Wp E m_X13_ranked (e4 + 1 + 1 + 1 + 1 + 1) 17 [some (va_rf (some th)), some (.int (iI (k0 : Nat))), some (va_rf (some u.2.1)), some (.int (iI (k : Nat)))] [] v (c_r K) := by
    intro f
    induction f with
    | zero =>
      intro k v mc hk hIv c nv hq hit
      have : k = Ds.length := by omega
      subst this
      exact s_X13_ranked_17 _ _ _ _ (hQ.arch hIv (fun a hA => qa_many (by omega) hA (ifT (by rw [iI_len (by omega) (by omega)]; omega) ⟨_, rfl, H v mc hIv (c.le (by omega)) nv hq hit⟩)))
    | succ f ih =>
      intro k v mc hk hIv c nv hq hit
      obtain ⟨D, hd1'⟩ := dc_get (l := Ds) (i := k) (by omega)
      obtain ⟨g1, g2, g3, g4, g5, g6, g7⟩ := hQ.D.at hd1'
      refine s_X13_ranked_17 _ _ _ _ (hQ.arch hIv (fun a hA => qa_many (by omega) hA (ifF (by rw [iI_len (by omega) (by omega)]; omega) ?_)))
      show f_V E (pw_new v (15, [.int 0, .int 0, .int 0]) 3) (some th) 12 m_X13_set _ [.int (iI (k0 : Nat)), .int (iI (k : Nat))] _
      have cn : cx E v (pw_new v (15, [.int 0, .int 0, .int 0]) 3) c_no 7 := cx.new hIv.1 _ 3
      have hI6 := hIv.cx cn (fun _ _ _ z => z) (fun _ _ z => z)
      have k6 : (pw_new v (15, [.int 0, .int 0, .int 0]) 3).1 (u.2.1 + 3 + k) = some (15, [.int 0, .int 0, .int 0]) := by rw [← nv]; exact pw_new_1 _ _ _
      have n6 : (pw_new v (15, [.int 0, .int 0, .int 0]) 3).2.1 = u.2.1 + 3 + k + 1 := by show v.2.1 + 1 = _; omega
      have q6 : c_pq (pw_new v (15, [.int 0, .int 0, .int 0]) 3).1 u.2.1 (u.2.1 + 2) (u.2.1 + 1) (fun i => u.2.1 + 3 + i) (pq_b r k) k mc := ⟨cn.at hq.1, cn.at hq.2.1, cn.at hq.2.2⟩
      have i6 := hit.cx cn (fun _ _ z => z)
      rw [nv]
      generalize pw_new v (15, [.int 0, .int 0, .int 0]) 3 = v6 at cn hI6 k6 n6 q6 i6 ⊢
      obtain ⟨us, hus⟩ := hQ.ob hI6
      refine ⟨th, us, rfl, hus, ck_set_ok (by omega) hQ hI6 hn hd1' (fun v7 h7 c7 e7 => ?_)⟩
      have c67 : cx E v v7 (k_F L) 7 := (cn.no.tr c7).le (by omega)
      have k7 := c7.keep k6 (nF _ (by omega))
      have q7 : c_pq v7.1 u.2.1 (u.2.1 + 2) (u.2.1 + 1) (fun i => u.2.1 + 3 + i) (pq_b r k) k mc := ⟨c7.keep q6.1 (nF _ (by omega)), c7.keep q6.2.1 (nF _ (by omega)), c7.keep q6.2.2 (nF _ (by omega))⟩
      have i7 := i6.cx c7 (fun i hi => nF _ (by omega))
      have n7 : v7.2.1 = u.2.1 + 3 + k + 1 := by rw [e7]; exact n6
      have hset := dk_set_r (e0.2.2.2.2 k) D.1.length g6
      refine hQ.arch h7 (fun a hA7 => qa_of (by omega) hA7 hd1' (fun b hb => dq_many (by omega) hb (rk_init_ok (by omega) h7.1 k7 (by omega) hset (fun v8 c8 e8 k8 => ?_))))
      have h8 := h7.cx c8 (fun q o hq' z => by have z : q = u.2.1 + 3 + k := z; have := hI.2.1 q o hq'; have := hw.lt this; omega) (fun q hq' z => by have z : q = u.2.1 + 3 + k := z; exact nF q (by omega) hq')
      have q8 : c_pq v8.1 u.2.1 (u.2.1 + 2) (u.2.1 + 1) (fun i => u.2.1 + 3 + i) (pq_b r k) k mc := ⟨c8.keep q7.1 (by omega), c8.keep q7.2.1 (by omega), c8.keep q7.2.2 (by omega)⟩
      have i8 : pq_it v8.1 (fun i => u.2.1 + 3 + i) (dk_B Ds e0.2.2.2.2) (dk_Z Ds e0.2.2.2.2) (k + 1) := by
        intro i hi
        by_cases z : i = k
        · subst z
          show v8.1 (u.2.1 + 3 + i) = _
          unfold dk_B dk_Z
          rw [g3]
          exact k8
        · exact c8.keep (i7 i (by omega)) (by show ¬ u.2.1 + 3 + i = u.2.1 + 3 + k; omega)
      have hin : pq_in (pq_b r k) k k := pq_has_in (List.all_eq_true.mp hbd.1 k (List.mem_range.mpr (by omega)))
      refine ⟨u.2.1, _, rfl, q8.1, ?_⟩
      show pw_Cl E m_J31_add _ [va_rf (some u.2.1), va_rf (some ((fun i => u.2.1 + 3 + i) k))] v8 _
      refine pq_add_ok (by omega) h8.1 q8 hbb (by omega) i8 (hr.le (by omega)) (by omega) (by omega) (fun i hi => by obtain ⟨y, y1, y2⟩ := hin i hi; exact ⟨y, y1, by omega⟩) (fun v9 mc9 c9 e9 q9 => ?_)
      have h9 := h8.cx c9 (fun q o hq' z => by have := hw.lt (hI.2.1 q o hq'); rcases z with z | z <;> omega) (fun q hq' z => by exact nF q (by rcases z with z | z <;> omega) hq')
      have i9 := i8.cx c9 (fun i hi z => by rcases z with z | z <;> (have z : u.2.1 + 3 + i = _ := z; omega))
      have c69 : cx E u v9 (k_F L) (27 + 8 * (k + 1)) := by
        have x1 := c.tr c67
        have x2 := cx.tn hw x1 c8 (fun q z => Or.inr (by have z : q = u.2.1 + 3 + k := z; omega))
        exact (cx.tn hw x2 c9 (fun q z => Or.inr (by rcases z with z | z <;> omega))).le (by omega)
      rw [iI_ad1]
      exact ih (k + 1) v9 mc9 (by omega) h9 c69 (by rw [e9, e8, n7]; rfl) q9 i9
  exact key Ds.length 0 w5 0 (by omega) hI5 (c15.no.le (by omega)) n5 ⟨d1, d3, d2⟩ (fun i hi => by omega)
end
