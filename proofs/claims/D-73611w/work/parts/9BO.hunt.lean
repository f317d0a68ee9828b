set_option maxRecDepth 100000
/-! the component: hunts -/
theorem c_canI1 : pw_can 1000 "[I" := c_canI
def da_has (Ds : List dc) (s : List Int) (i v : Int) : Bool := da_isVer Ds i v && dc_has (da_D Ds i.toNat) v.toNat s
abbrev hF : Type := Int × Int × Int
def c_facts (E : pw_E) (z : pw_H) (fl : Nat) (F : List hF) : Prop := ∃ (mc : Int32) (b cap : Nat) (fas : List Nat), c_al E z fl mc b cap (fas.map some) ∧ fas.length = F.length ∧ ∀ (i f : Nat) (x : hF), fas[i]? = some f → F[i]? = some x → z f = some (1000, [.int (iI x.1), .int (iI x.2.1), .int (iI x.2.2)])
theorem c_facts.mono {E : pw_E} {p h : pw_H} {fl : Nat} {F : List hF} (k : c_facts E p fl F) (z : c_sub p h) : c_facts E h fl F := by
  obtain ⟨mc, b, cap, fas, h1, h2, h3⟩ := k
  exact ⟨mc, b, cap, fas, h1.mono z, h2, fun i f x h4 h5 => z _ _ (h3 i f x h4 h5)⟩
def hfok (F : List hF) : Prop := ∀ x ∈ F, (0 ≤ x.1 ∧ x.1 ≤ 1000) ∧ (0 ≤ x.2.1 ∧ x.2.1 ≤ 1000) ∧ 0 ≤ x.2.2 ∧ x.2.2 ≤ 1000
def hu_one (Ds : List dc) (s : List Int) (f : hF) : Bool := da_has Ds s f.2.1 f.2.2 == decide (f.1 = 1)
def hu_so (Ds : List dc) (F : List hF) (s : List Int) : Bool := F.all (hu_one Ds s)
section
variable {E : pw_E} {d : Nat} {w : pw_W} {Ds : List dc} {a hu wl : Nat} {t : Int} {F : List hF}
theorem hu_isIn_ok {i v : Int} {c : Nat} {s : List Int} {K : Bool → pw_W → Prop} (hd : 7 ≤ d) (hw : wf E w) (hA : c_arch E w.1 w.1 a Ds t) (hD : da_ok Ds) (hh : w.1 hu = some (16, [va_rf (some a), va_rf (some wl)])) (hc : c_str w.1 c s) (hi : rI i) (hv : rI v) (H : K (da_has Ds s i v) w) : pw_Cl E m_X17_isIn d [va_rf (some hu), va_rf (some c), .int (iI i), .int (iI v)] w (c_z K) := by
  replace hd := pw_d1 hd; obtain ⟨e, rfl, hd⟩ := hd
  obtain ⟨us, hus⟩ := hA.obj
  refine e_X17_isIn _ _ _ _ (s_X17_isIn_0 _ _ _ _ ⟨hu, _, _, rfl, hh, rfl, a, us, rfl, hus, ca_isVersion_ok (by omega) hA hD hi hv ?_⟩)
  unfold da_has at H
  cases hb : da_isVer Ds i v with
  | false =>
    rw [hb, Bool.false_and] at H
    exact ifT (by decide) ⟨false, rfl, H⟩
  | true =>
    rw [hb, Bool.true_and] at H
    unfold da_isVer at hb
    rw [Bool.and_eq_true, decide_eq_true_eq, decide_eq_true_eq] at hb
    obtain ⟨hb1, hb2⟩ := hb
    obtain ⟨D, hd1⟩ := dc_get (l := Ds) (i := i.toNat) (by omega)
    obtain ⟨g1, g2, g3, g4, g5, g6, g7⟩ := hD.at hd1
    rw [g3] at hb2 H
    obtain ⟨row, hr⟩ := dc_get (l := D.1) (i := v.toNat) (by omega)
    have ei : iI i = iI ((i.toNat : Nat) : Int) := by rw [Int.toNat_of_nonneg hb1.1]
    have ev : iI v = iI ((v.toNat : Nat) : Int) := by rw [Int.toNat_of_nonneg hb2.1]
    refine ifF (by decide) ⟨hu, _, _, rfl, hh, rfl, ?_⟩
    rw [ei, ev]
    refine qa_of (by omega) hA hd1 (fun b hbd => ?_)
    obtain ⟨us', hus'⟩ := hbd.obj
    refine ⟨b, us', rfl, hus', cd_hasWord_ok (by omega) hw hbd g4 hr hc ?_⟩
    cases hz : dc_has D v.toNat s with
    | false =>
      rw [hz] at H
      exact ifT (by decide) ⟨false, rfl, H⟩
    | true =>
      rw [hz] at H
      exact ifF (by decide) ⟨true, rfl, H⟩
theorem fa_ld {f : Nat} {x : hF} {K : Int32 → Prop} {u : pw_W} (h : u.1 f = some (1000, [.int (iI x.1), .int (iI x.2.1), .int (iI x.2.2)])) (k : Nat) (z : Int) (hk : k < 3) (hz : [x.1, x.2.1, x.2.2][k]? = some z) (H : K (iI z)) : f_aldi u (some f) (iI (k : Nat)) K := by
  refine ⟨f, 0, _, iI z, rfl, h, rfl, iI_n0 (by omega), ?_, H⟩
  rw [iI_nn (by omega)]
  have : ([.int (iI x.1), .int (iI x.2.1), .int (iI x.2.2)] : List Value) = [x.1, x.2.1, x.2.2].map (fun z => Value.int (iI z)) := rfl
  rw [this, List.getElem?_map, hz]
  rfl
theorem hu_isSo_ok {fl c : Nat} {s : List Int} {K : Bool → pw_W → Prop} (hd : 9 ≤ d) (hw : wf E w) (hA : c_arch E w.1 w.1 a Ds t) (hD : da_ok Ds) (hh : w.1 hu = some (16, [va_rf (some a), va_rf (some wl)])) (hc : c_str w.1 c s) (hf : c_facts E w.1 fl F) (hF : hfok F) (H : ∀ w', cx E w w' c_no 8 → K (hu_so Ds F s) w') : pw_Cl E m_X17_isSo d [va_rf (some hu), va_rf (some c), va_rf (some fl)] w (c_z K) := by
  replace hd := pw_d1 hd; obtain ⟨e, rfl, hd⟩ := hd
  obtain ⟨mc, b, cap, fas, h1, h2, h3⟩ := hf
  refine e_X17_isSo _ _ _ (s_X17_isSo_0 _ _ _ ⟨fl, _, rfl, h1.1, cl_iterator_ok (by omega) hw h1 (fun w1 c1 n1 i1 => ?_)⟩)
  have key : ∀ (f k : Nat) (u : pw_W), k + f = F.length → cx E w u c_no 8 → c_it u.1 w.2.1 k mc fl → (∀ j x, j < k → F[j]? = some x → hu_one Ds s x = true) → pw_Wp E m_X17_isSo (e + 1) 5 [some (va_rf (some hu)), some (va_rf (some c)), none, some (va_rf (some w.2.1)), none] [] u (c_z K) := by
    intro f
    induction f with
    | zero =>
      intro k u hk cu it ht
      refine s_X17_isSo_5 _ _ _ (cl_step (by omega) it hw.b (h1.mono cu.sub1) (by simp; omega) (fun _ => ⟨true, rfl, ?_⟩) (fun x o hx => ?_))
      · have := H u cu
        rw [show hu_so Ds F s = true by
          unfold hu_so
          rw [List.all_eq_true]
          intro x hx
          obtain ⟨j, hj⟩ := List.getElem?_of_mem hx
          exact ht j x (by have := (List.getElem?_eq_some_iff.mp hj).1; omega) hj] at this
        exact this
      · have := (List.getElem?_eq_some_iff.mp hx).1
        rw [List.length_map] at this
        omega
    | succ f ih =>
      intro k u hk cu it ht
      refine s_X17_isSo_5 _ _ _ (cl_step (by omega) it hw.b (h1.mono cu.sub1) (by simp; omega) (fun q => by simp at q; omega) (fun y o hy hi ho => ?_))
      obtain ⟨fa, hfa⟩ := dc_get (l := fas) (i := k) (by omega)
      obtain ⟨x, hx⟩ := dc_get (l := F) (i := k) (by omega)
      rw [List.getElem?_map, hfa] at hy
      cases hy
      obtain ⟨r1, r2, r3⟩ := hF x (List.mem_of_getElem? hx)
      have c2 := it.cx hw cu (Nat.le_refl _) o
      have hfx := c2.at (h3 k fa x hfa hx)
      refine ⟨Or.inr ⟨fa, 1000, _, rfl, hfx, c_canI⟩, ?_⟩
      show f_aldi _ (some fa) (iI ((1 : Nat) : Int)) _
      refine fa_ld hfx 1 x.2.1 (by omega) rfl ?_
      show f_aldi _ (some fa) (iI ((2 : Nat) : Int)) _
      refine fa_ld hfx 2 x.2.2 (by omega) rfl ⟨hu, _, rfl, c2.at hh, hu_isIn_ok (by omega) c2.ok (hA.mono c2.sub1 c2.sub1) hD (c2.at hh) (hc.mono c2.sub1) (rI_small (by omega) (by omega)) (rI_small (by omega) (by omega)) ?_⟩
      show f_aldi _ (some fa) (iI ((0 : Nat) : Int)) _
      refine fa_ld hfx 0 x.1 (by omega) rfl ?_
      have m1 : (iI x.1 = 1) = (x.1 = 1) := iI_eq (b := 1) (rI_small (by omega) (by omega)) (rI_small (by omega) (by omega))
      have bad : hu_one Ds s x = false → c_z K (.inl (some (.int 0))) (pw_up u w.2.1 o) := by
        intro hz
        have := H _ c2
        rw [show hu_so Ds F s = false by
          unfold hu_so
          rw [List.all_eq_false]
          exact ⟨x, List.mem_of_getElem? hx, by rw [hz]; decide⟩] at this
        exact ⟨false, rfl, this⟩
      have go : hu_one Ds s x = true → pw_Wp E m_X17_isSo (e + 1) 5 [some (va_rf (some hu)), some (va_rf (some c)), none, some (va_rf (some w.2.1)), none] [] (pw_up u w.2.1 o) (c_z K) := fun hz => ih (k + 1) _ (by omega) c2 hi (fun j x' hj hx' => by
        by_cases q : j = k
        · subst q; rw [hx] at hx'; cases hx'; exact hz
        · exact ht j x' (by omega) hx')
      have e1 : hu_one Ds s x = (da_has Ds s x.2.1 x.2.2 == decide (x.1 = 1)) := rfl
      by_cases q : x.1 = 1
      · refine ifT (by rw [m1]; exact q) ?_
        rw [decide_eq_true q] at e1
        cases hb : da_has Ds s x.2.1 x.2.2 with
        | false => rw [hb] at e1; exact ifF (by decide) (bad e1)
        | true => rw [hb] at e1; exact ifT (by decide) (go e1)
      · refine ifF (by rw [m1]; exact q) ?_
        rw [decide_eq_false q] at e1
        cases hb : da_has Ds s x.2.1 x.2.2 with
        | false => rw [hb] at e1; exact ifT (by decide) (go e1)
        | true => rw [hb] at e1; exact ifF (by decide) (bad e1)
  exact key F.length 0 w1 (by omega) c1 i1 (fun j x hj => by omega)
theorem l_pick {α β : Type} {R : α → β → Prop} : ∀ l : List α, (∀ x ∈ l, ∃ y, R x y) → ∃ l' : List β, l'.length = l.length ∧ ∀ (i : Nat) (x : α) (y : β), l[i]? = some x → l'[i]? = some y → R x y := by
  intro l
  induction l with
  | nil => intro _; exact ⟨[], rfl, fun i x y h => by simp at h⟩
  | cons x l ih =>
    intro h
    obtain ⟨y, hy⟩ := h x (List.mem_cons_self ..)
    obtain ⟨l', h1, h2⟩ := ih (fun z hz => h z (List.mem_cons_of_mem _ hz))
    refine ⟨y :: l', by simp [h1], fun i a b ha hb => ?_⟩
    cases i with
    | zero => cases ha; cases hb; exact hy
    | succ i => exact h2 i a b ha hb
theorem c_str.keep {w' : pw_W} {F : Nat → Prop} {n a : Nat} {s : List Int} (k : c_str w.1 a s) (z : cx E w w' F n) (hF : ∀ (a : Nat) (o : pw_O), w.1 a = some o → F a → o.1 ≠ 21 ∧ o.1 ≠ 1001) : c_str w'.1 a s := by
  obtain ⟨b, v2, v3, h1, h2, h3⟩ := k
  exact ⟨b, v2, v3, z.keep h1 (fun f => (hF _ _ h1 f).1 rfl), z.keep h2 (fun f => (hF _ _ h2 f).2 rfl), h3⟩
theorem c_gr_le {cap : Nat} (h : 10 ≤ cap) : 4 * cap + 4 ≤ 3 * c_gr cap ∧ 2 * c_gr cap ≤ 3 * cap := by
  unfold c_gr
  rw [if_neg (by omega)]
  omega
end
