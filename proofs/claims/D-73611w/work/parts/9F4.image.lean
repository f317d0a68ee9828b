set_option maxRecDepth 100000
/-! the component: image, again, a new face -/
section
variable {E : pw_E} {d : Nat} {w : pw_W} {P : Nat → Prop} {z : pw_H} {f s ka s2 : Nat} {x x2 x' : sX} {V V' V2 : sS} {kp : sK}
/-- the kept, read -/
theorem fI.ald {k : Nat} {K : Option Nat → Prop} (h : fI E P z w.1 f s ka x V kp) (hk : k < 3) (H : K ((kp k).map (fun y => y.1))) : f_getr w (some f) 0 1 (fun x3 => f_aldr w x3 (iI (k : Nat)) K) := by
  obtain ⟨⟨h0, -⟩, ⟨a1, a2, -⟩, -⟩ := h
  refine ⟨f, _, _, rfl, h0, rfl, ka, 5, _, _, _, rfl, a2, rfl, rfl, iI_n0 (by omega), ?_, H⟩
  rw [iI_nn (by omega), List.getElem?_map, List.getElem?_range hk]
  rfl
theorem fI.own (h : fI E P z w.1 f s ka x V kp) : ∀ q, s_F s x q → ¬ P q := fun q hq => (h.2.2.2.1.1 q hq).2
theorem fx_image_ok {k : Int} {K : Bool → pw_W → Prop} (hd : 40 ≤ d) (hw : wf E w) (hP : ∀ q, P q → q < w.2.1) (h : fI E P z w.1 f s ka x V kp) (hk : rI k) (H1 : 0 ≤ k ∧ k ≤ 2 → ∀ (w' : pw_W) (s' : Nat) (x' : sX), cx E w w' (fun q => ¬ P q) 800 → fI E P z w'.1 f s ka x V (fun j => if j = k.toNat then some (s', x', V) else kp j) → K true w') (H0 : ¬ (0 ≤ k ∧ k ≤ 2) → K false w) : pw_Cl E m_X0_image d [va_rf (some f), .int (iI k)] w (c_z K) := by
  replace hd := pw_d1 hd; obtain ⟨e, rfl, hd⟩ := hd
  refine e_X0_image _ _ (s_X0_image_0 _ _ (c_isIn0_ok (b := 2) (by omega) hk (rI_small (by omega) (by omega)) ?_))
  by_cases m : 0 ≤ k ∧ k ≤ 2
  · rw [decide_eq_true m]
    refine ifF (by decide) ?_
    have H1 := H1 m
    have ek : k = (k.toNat : Nat) := by omega
    have k3 : k.toNat < 3 := by omega
    rw [ek]
    generalize k.toNat = j at H1 k3 ⊢
    obtain ⟨⟨h0, hs0, hz, hf0, ho0⟩, ⟨a1, a2, a3, a4, a5⟩, hkp, ⟨d1, d2, d3⟩, hdd⟩ := id h
    refine h.ald k3 ?_
    have g : ∀ (v : pw_W) (kp' : sK), fI E P z v.1 f s ka x V kp' → f_getr v (some f) 0 0 = fun K => f_getr v (some f) 0 0 K := fun _ _ _ => rfl
    cases hj : kp j with
    | none =>
      refine ifT rfl ⟨f, _, _, rfl, h0, rfl, ?_⟩
      have c1 : cx E w (pw_new w (1, [va_rf none, .int 0, .int 0, .int 0, va_rf none, va_rf none, va_rf none]) 7) c_no 11 := cx.new hw _ 7
      show pw_Cl E m_X1_init e [va_rf (some w.2.1)] (pw_new w (1, [va_rf none, .int 0, .int 0, .int 0, va_rf none, va_rf none, va_rf none]) 7) _
      refine sx_init_ok (by omega) c1.ok (pw_new_1 _ _ _) hw.b (fun w2 x2 c2 st2 hF2 => ?_)
      have c12 : cx E w w2 c_no 711 := cx.tn hw c1 c2 (fun q hq => Or.inr (by have hq : q = w.2.1 := hq; omega))
      have hnew : ∀ q, s_F w.2.1 x2 q → w.2.1 ≤ q := fun q hq => by
        rcases hF2 q hq with rfl | hq
        · exact Nat.le_refl _
        · have : w.2.1 + 1 ≤ q := hq
          omega
      have hfree : ∀ q, s_F w.2.1 x2 q → w.1 q = none := fun q hq => hw.2.1 q (hnew q hq)
      -- the new state's place put into the row
      refine ⟨ka, 5, _, _, rfl, c12.at a2, rfl, by decide, a1, iI_n0 (by omega), by rw [iI_nn (by omega), List.length_map, List.length_range]; exact k3, Or.inr ⟨w.2.1, 1, _, rfl, st2.1, c_canSt⟩, ?_⟩
      have erow : (((List.range 3).map (fun k => va_rf ((kp k).map (fun y => y.1)))).set (iI (j : Nat)).toNatClampNeg (va_rf (some w.2.1))) = (List.range 3).map (fun i => va_rf ((if i = j then some (w.2.1, x2, s_V0) else kp i).map (fun y => y.1))) := by
        rw [iI_nn (by omega)]
        have : j = 0 ∨ j = 1 ∨ j = 2 := by omega
        rcases this with rfl | rfl | rfl <;> rfl
      rw [erow]
      have c3 := cx.up (F := fun q => q = ka) c12.ok (1005, (List.range 3).map (fun i => va_rf ((if i = j then some (w.2.1, x2, s_V0) else kp i).map (fun y => y.1)))) (c12.at a2) a1 rfl
      have c13 : cx E w (pw_up w2 ka (1005, (List.range 3).map (fun i => va_rf ((if i = j then some (w.2.1, x2, s_V0) else kp i).map (fun y => y.1))))) (fun q => q = ka) 711 := c12.no.tr c3
      have kalt := hw.lt a2
      have st3 : s_st E (pw_up w2 ka (1005, (List.range 3).map (fun i => va_rf ((if i = j then some (w.2.1, x2, s_V0) else kp i).map (fun y => y.1))))).1 w.2.1 x2 s_V0 := st2.keepH c12.ok (fun q o hq h9 => by rw [pw_up_ne (by have := hnew q hq; omega)]; exact h9)
      have hI3 := h.kept (y0 := (w.2.1, x2, s_V0)) hw k3 c13 (fun q o _ hq => Or.inl hq) (pw_up_1 _ _ _) st3 (s_V0_fz E z) s_V0_ok (fun q hq => by
        have hq : s_F w.2.1 x2 q := hq
        refine ⟨?_, fun hp => ?_, fun hq' => ?_, fun i hi _ y hy hq' => ?_⟩
        · cases hz9 : z q with
          | none => rfl
          | some o => have := hz q o hz9; rw [hfree q hq] at this; cases this
        · have := hP q hp; have := hnew q hq; omega
        · obtain ⟨o, g1, -⟩ := hs0.kind hw hq'
          rw [hfree q hq] at g1; cases g1
        · obtain ⟨o, g1, -⟩ := (hkp i hi y hy).1.kind hw hq'
          rw [hfree q hq] at g1; cases g1)
      show f_getr (pw_up w2 ka (1005, (List.range 3).map (fun i => va_rf ((if i = j then some (w.2.1, x2, s_V0) else kp i).map (fun y => y.1))))) (some f) 0 1 _
      generalize pw_up w2 ka (1005, (List.range 3).map (fun i => va_rf ((if i = j then some (w.2.1, x2, s_V0) else kp i).map (fun y => y.1)))) = w3 at c3 c13 st3 hI3 ⊢
      refine hI3.ald k3 ?_
      rw [if_pos rfl]
      obtain ⟨⟨h0', hs0', hz', hf0', ho0'⟩, -⟩ := id hI3
      refine ⟨f, _, _, rfl, h0', rfl, w.2.1, _, rfl, st3.1, ?_⟩
      have dj : ∀ q, s_F s x q → ¬ s_F w.2.1 x2 q := fun q hq hq' => by
        obtain ⟨o, g1, -⟩ := hs0.kind hw hq
        rw [hfree q hq'] at g1; cases g1
      have zn : ∀ q, s_F w.2.1 x2 q → z q = none := fun q hq => by
        cases hz9 : z q with
        | none => rfl
        | some o => have := hz q o hz9; rw [hfree q hq] at this; cases this
      refine sx_be_ok (by omega) c13.ok st3 hs0' dj ho0' hz' hf0' zn (fun w4 x4 c4 hx4 st4 => ⟨true, rfl, ?_⟩)
      have hx4' : ∀ q, s_F w.2.1 x4 q → s_F w.2.1 x2 q := fun q hq => by rw [← hx4]; exact hq
      have c14 : cx E w w4 (fun q => q = ka) 731 := cx.tn hw c13 c4 (fun q hq => Or.inr (hnew q hq))
      have fin := h.kept (y0 := (w.2.1, x4, V)) hw k3 c14 (fun q o _ hq => Or.inl hq) (by
        rw [c4.keep hI3.2.1.2.1 (fun hq => by have := hnew ka hq; omega)]
        congr 2
        refine List.map_congr_left (fun i _ => ?_)
        show va_rf ((if i = j then some (w.2.1, x2, s_V0) else kp i).map (fun y => y.1)) = va_rf ((if i = j then some (w.2.1, x4, V) else kp i).map (fun y => y.1))
        by_cases e : i = j
        · rw [if_pos e, if_pos e]; rfl
        · rw [if_neg e, if_neg e]) st4 hf0 ho0 (fun q hq => by
        have hq := hx4' q hq
        refine ⟨zn q hq, fun hp => ?_, fun hq' => dj q hq' hq, fun i hi _ y hy hq' => ?_⟩
        · have := hP q hp; have := hnew q hq; omega
        · obtain ⟨o, g1, -⟩ := (hkp i hi y hy).1.kind hw hq'
          rw [hfree q hq] at g1; cases g1)
      exact H1 w4 w.2.1 x4 (c14.mono (fun q o _ hq => by have hq : q = ka := hq; rw [hq]; exact a4) (by decide)) fin
    | some y =>
      refine ifF (fun e => by cases e) (h.ald k3 ?_)
      rw [hj]
      obtain ⟨hy1, hy2, hy3⟩ := hkp j k3 y hj
      refine ⟨f, _, _, rfl, h0, rfl, y.1, _, rfl, hy1.1, ?_⟩
      have d3' := d3 j k3 y hj
      refine sx_be_ok (by omega) hw hy1 hs0 (fun q hq hq' => (d3' q hq').2.2 hq) ho0 hz hf0 (fun q hq => (d3' q hq).1) (fun w4 x4 c4 hx4 st4 => ⟨true, rfl, ?_⟩)
      have fin := h.kept (y0 := (y.1, x4, V)) hw k3 c4 (fun q o _ hq => Or.inr ⟨y, hj, hq⟩) (by
        rw [c4.keep a2 (fun hq => by
          obtain ⟨o, g1, g2, -⟩ := hy1.kind hw hq
          rw [a2] at g1; cases g1
          rcases g2 with g2 | g2 | g2 | g2 <;> cases g2)]
        congr 2
        refine List.map_congr_left (fun i _ => ?_)
        by_cases e : i = j
        · rw [if_pos e, e, hj]; rfl
        · rw [if_neg e]) st4 hf0 ho0 (fun q hq => by
        have hq : s_F y.1 y.2.1 q := by rw [← hx4]; exact hq
        exact ⟨(d3' q hq).1, (d3' q hq).2.1, (d3' q hq).2.2, fun i hi hne y' hy' hq' => hdd i j hi k3 hne y' y hy' hj q hq' hq⟩)
      exact H1 w4 y.1 x4 (c4.mono (fun q o _ hq => (d3' q hq).2.1) (by decide)) fin
  · rw [decide_eq_false m]
    exact ifT (by decide) ⟨false, rfl, H0 m⟩
theorem fx_again_ok {k : Int} {K : Bool → pw_W → Prop} (hd : 40 ≤ d) (hw : wf E w) (h : fI E P z w.1 f s ka x V kp) (hk : rI k) (H1 : 0 ≤ k ∧ k ≤ 2 → ∀ y, kp k.toNat = some y → ∀ (w' : pw_W) (x' : sX), cx E w w' (fun q => ¬ P q) 800 → fI E P z w'.1 f s ka x' y.2.2 kp → K true w') (H0 : (¬ (0 ≤ k ∧ k ≤ 2) ∨ kp k.toNat = none) → K false w) : pw_Cl E m_X0_again d [va_rf (some f), .int (iI k)] w (c_z K) := by
  replace hd := pw_d1 hd; obtain ⟨e, rfl, hd⟩ := hd
  refine e_X0_again _ _ (s_X0_again_0 _ _ (c_isIn0_ok (b := 2) (by omega) hk (rI_small (by omega) (by omega)) ?_))
  by_cases m : 0 ≤ k ∧ k ≤ 2
  · rw [decide_eq_true m]
    refine ifF (by decide) ?_
    have H1 := H1 m
    have ek : k = (k.toNat : Nat) := by omega
    have k3 : k.toNat < 3 := by omega
    rw [ek]
    have H0 : kp k.toNat = none → K false w := fun e => H0 (Or.inr e)
    generalize k.toNat = j at H1 k3 H0 ⊢
    obtain ⟨⟨h0, hs0, hz, hf0, ho0⟩, ⟨a1, a2, a3, a4, a5⟩, hkp, ⟨d1, d2, d3⟩, hdd⟩ := id h
    refine h.ald k3 ?_
    cases hj : kp j with
    | none => exact ifT rfl ⟨false, rfl, H0 hj⟩
    | some y =>
      refine ifF (fun e => by cases e) ⟨f, _, _, rfl, h0, rfl, h.ald k3 ?_⟩
      rw [hj]
      obtain ⟨hy1, hy2, hy3⟩ := hkp j k3 y hj
      have d3' := d3 j k3 y hj
      refine ⟨s, _, rfl, hs0.1, sx_be_ok (by omega) hw hs0 hy1 (fun q hq => (d3' q hq).2.2) hy3 hz hy2 (fun q hq => (d1 q hq).1) (fun w4 x4 c4 hx4 st4 => ⟨true, rfl, ?_⟩)⟩
      exact H1 y hj w4 x4 (c4.mono (fun q o _ hq => (d1 q hq).2) (by decide)) (h.upd2 hw c4 hx4 st4 hy3 hy2)
  · rw [decide_eq_false m]
    exact ifT (by decide) ⟨false, rfl, H0 (Or.inl m)⟩
/-- a new face, at f -/
theorem fx_init_ok {K : pw_W → Prop} (hd : 40 ≤ d) (hw : wf E w) (hf : w.1 f = some (0, [va_rf none, va_rf none])) (hb : pw_base E ≤ f) (hPf : ¬ P f) (hP : ∀ q, P q → q < w.2.1) (H : ∀ (w' : pw_W) (s ka : Nat) (x : sX), cx E w w' (fun q => q = f) 800 → fI E P (fun _ => none) w'.1 f s ka x s_V0 (fun _ => none) → K w') : pw_Cl E m_X0_init d [va_rf (some f)] w (c_v K) := by
  replace hd := pw_d1 hd; obtain ⟨e, rfl, hd⟩ := hd
  have hlt := hw.lt hf
  have hbb := hw.b
  refine e_X0_init _ (s_X0_init_0 _ ?_)
  have c1 : cx E w (pw_new w (1, [va_rf none, .int 0, .int 0, .int 0, va_rf none, va_rf none, va_rf none]) 7) c_no 11 := cx.new hw _ 7
  show pw_Cl E m_X1_init e [va_rf (some w.2.1)] (pw_new w (1, [va_rf none, .int 0, .int 0, .int 0, va_rf none, va_rf none, va_rf none]) 7) _
  refine sx_init_ok (by omega) c1.ok (pw_new_1 _ _ _) hw.b (fun w2 x2 c2 st2 hF2 => ?_)
  have c12 : cx E w w2 c_no 711 := cx.tn hw c1 c2 (fun q hq => Or.inr (by have hq : q = w.2.1 := hq; omega))
  have hnew : ∀ q, s_F w.2.1 x2 q → w.2.1 ≤ q := fun q hq => by
    rcases hF2 q hq with rfl | hq
    · exact Nat.le_refl _
    · have : w.2.1 + 1 ≤ q := hq
      omega
  have c3 := cx.up (F := fun q => q = f) c12.ok (0, [va_rf (some w.2.1), va_rf none]) (c12.at hf) hb rfl
  refine ⟨f, _, rfl, c12.at hf, hb, by decide, by decide, ?_⟩
  have st3 : s_st E (pw_up w2 f (0, [va_rf (some w.2.1), va_rf none])).1 w.2.1 x2 s_V0 := st2.keepH c12.ok (fun q o hq h9 => by rw [pw_up_ne (by have := hnew q hq; omega)]; exact h9)
  have n3 : (pw_up w2 f (0, [va_rf (some w.2.1), va_rf none])).2.1 = w2.2.1 := rfl
  have f3 : (pw_up w2 f (0, [va_rf (some w.2.1), va_rf none])).1 f = some (0, [va_rf (some w.2.1), va_rf none]) := pw_up_1 _ _ _
  show f_put E (pw_new (pw_up w2 f (0, [va_rf (some w.2.1), va_rf none])) _ _) (some f) 0 1 (va_rf (some (pw_up w2 f (0, [va_rf (some w.2.1), va_rf none])).2.1)) _
  generalize pw_up w2 f (0, [va_rf (some w.2.1), va_rf none]) = w3 at c3 st3 n3 f3 ⊢
  have er : (1000 + 5, List.replicate (Int32.toNatClampNeg 3) (va_rf none)) = ((1005, (List.range 3).map (fun k => va_rf (((fun _ => none : sK) k).map (fun y => y.1)))) : pw_O) := rfl
  rw [er]
  have c4 : cx E w3 (pw_new w3 (1005, (List.range 3).map (fun k => va_rf (((fun _ => none : sK) k).map (fun y => y.1)))) (Int32.toNatClampNeg 3)) c_no 7 := cx.new c3.ok _ 3
  have k4 : (pw_new w3 (1005, (List.range 3).map (fun k => va_rf (((fun _ => none : sK) k).map (fun y => y.1)))) (Int32.toNatClampNeg 3)).1 w3.2.1 = some (1005, (List.range 3).map (fun k => va_rf (((fun _ => none : sK) k).map (fun y => y.1)))) := pw_new_1 _ _ _
  generalize pw_new w3 (1005, (List.range 3).map (fun k => va_rf (((fun _ => none : sK) k).map (fun y => y.1)))) (Int32.toNatClampNeg 3) = w4 at c4 k4 ⊢
  have f4 := c4.at f3
  have c5 := cx.up (F := fun q => q = f) c4.ok (0, [va_rf (some w.2.1), va_rf (some w3.2.1)]) f4 hb rfl
  refine ⟨f, _, rfl, f4, hb, rfl, ?_⟩
  have h23 := c12.le1
  have ne : w3.2.1 ≠ f := by omega
  refine H _ w.2.1 w3.2.1 x2 ((cx.tn hw (c12.no.tr c3) (c4.no.tr c5) (fun q hq => Or.inl hq)).le (by decide)) ⟨⟨pw_up_1 _ _ _, ?_, (fun q o hq => by cases hq), s_V0_fz _ _, s_V0_ok⟩, ⟨by omega, by rw [pw_up_ne ne]; exact k4, rfl, fun hp => by have := hP _ hp; omega, hPf⟩, (fun k _ y hy => by cases hy), ⟨(fun q hq => ⟨rfl, fun hp => by have := hP _ hp; have := hnew q hq; omega⟩), (fun q o hq => by cases hq), (fun k _ y hy => by cases hy)⟩, (fun j k _ _ _ y y' hy => by cases hy)⟩
  exact st3.keepH c3.ok (fun q o hq h9 => by rw [pw_up_ne (by have := hnew q hq; omega)]; exact c4.at h9)
end
