set_option maxRecDepth 100000
/-! the component: a change drawn -/
/-- an Edit object -/
def eO (c r1 r2 b n0 n : Nat) : pw_O := if c = 0 then (2000, [.int (iI (r1 : Nat)), .int (iI (n0 : Nat)), .int (iI (n : Nat))]) else if c = 1 then (2018, [.int (iI (r1 : Nat))]) else if c = 2 then (2019, [.int (iI (r1 : Nat)), .int (iI (r2 : Nat))]) else (2017, [va_rf (some b), .int (iI (r1 : Nat))])
def dw_t (D : dc) (t : Int) (e : Option (Nat × Nat × Nat × List (List Int))) : Int := match e with
  | none => t
  | some _ => if D.1.length = 10 then t else t + 1
theorem dw_can {D : dc} {s : Int} {e : Nat × Nat × Nat × List (List Int)} (h : (dw D s).1 = some e) (h1 : 1 ≤ D.1.length) (h10 : D.1.length ≤ 10) (h20 : dc_last D ≤ 20) : ch_can e.1 D e.2.1 e.2.2.1 e.2.2.2.length ∧ (e.1 = 1 → e.2.2.1 = 1) ∧ (e.1 = 0 → ∃ s0, e.2.2.2 = [s0] ∧ D.2.1[0]? = some s0 ∧ D.1.length ≠ 10) ∧ (e.1 ≠ 0 → e.2.2.2 = []) := by
  unfold dw at h
  by_cases w5 : d_val s 6 = 5
  · rw [if_pos w5] at h
    cases h
    have vr := d_val_r (s := d_next s) (n := D.1.length) (by omega)
    exact ⟨⟨(fun e => by cases e), (fun e => by cases e), (fun e => by cases e), fun _ => by show (d_val (d_next s) D.1.length).toNat < D.1.length; omega, fun _ => rfl, (by decide : (3 : Nat) ≤ 3)⟩, (fun e => by cases e), (fun e => by cases e), fun _ => rfl⟩
  rw [if_neg w5] at h
  by_cases w23 : d_val s 6 = 2 ∨ d_val s 6 = 3
  · rw [if_pos w23] at h
    cases hD : D.2.1 with
    | nil => rw [hD] at h; cases h
    | cons s0 l0 =>
      rw [hD] at h
      have h : (if dc_last D = 20 ∨ D.1.length = 10 then none else some (0, (d_val (d_next s) ((dc_last D : Int) + 1)).toNat, 0, [s0])) = some e := h
      by_cases z : dc_last D = 20 ∨ D.1.length = 10
      · rw [if_pos z] at h; cases h
      · rw [if_neg z] at h
        cases h
        have vr := d_val_r (s := d_next s) (n := (dc_last D : Int) + 1) (by omega)
        exact ⟨⟨fun _ => ⟨by show (d_val (d_next s) ((dc_last D : Int) + 1)).toNat ≤ dc_last D; omega, by show dc_last D + 1 ≤ 20; omega⟩, (fun e => by cases e), (fun e => by cases e), (fun e => by cases e), fun e => absurd rfl e, (by decide : (0 : Nat) ≤ 3)⟩, (fun e => by cases e), fun _ => ⟨s0, rfl, rfl, by omega⟩, fun e => absurd rfl e⟩
  rw [if_neg w23] at h
  by_cases l0 : dc_last D = 0
  · rw [if_pos l0] at h; cases h
  rw [if_neg l0] at h
  have vr := d_val_r (s := d_next s) (n := dc_last D) (by omega)
  have vr2 := d_val_r (s := d_next (d_next s)) (n := dc_last D) (by omega)
  by_cases w2 : d_val s 6 < 2
  · rw [if_pos w2] at h
    cases h
    exact ⟨⟨(fun e => by cases e), fun _ => by show (d_val (d_next s) (dc_last D)).toNat + 1 ≤ dc_last D; omega, (fun e => by cases e), (fun e => by cases e), fun _ => rfl, (by decide : (1 : Nat) ≤ 3)⟩, fun _ => rfl, (fun e => by cases e), fun _ => rfl⟩
  · rw [if_neg w2] at h
    cases h
    exact ⟨⟨(fun e => by cases e), (fun e => by cases e), fun _ => ⟨by show (d_val (d_next s) (dc_last D)).toNat < dc_last D; omega, by show (d_val (d_next (d_next s)) (dc_last D)).toNat < dc_last D; omega⟩, (fun e => by cases e), fun _ => rfl, (by decide : (2 : Nat) ≤ 3)⟩, (fun e => by cases e), (fun e => by cases e), fun _ => rfl⟩
section
variable {E : pw_E} {d : Nat} {w : pw_W} {a b dr i : Nat} {D : dc} {x : dX} {X : Nat → Int} {ss : List (List Int)} {Ds : List dc} {t s0 : Int} {l : lX} {as : List Nat} {xs : List dX}
theorem dc_lastR (hD : dc_ok D) (h1 : 1 ≤ D.1.length) : ∃ row, D.1[D.1.length - 1]? = some row ∧ dc_row D (D.1.length - 1) = row ∧ dc_last D = row.length := by
  obtain ⟨row, hr⟩ := dc_get (l := D.1) (i := D.1.length - 1) (by omega)
  refine ⟨row, hr, (hD.row hr).2.2.2.1, ?_⟩
  unfold dc_last dc_len
  rw [(hD.row hr).2.2.2.1]
/-- an Edit object answers so -/
theorem eO_ok {c r1 r2 o : Nat} (hk : c_dX E w.1 b (D.1, D.2.1 ++ ss, D.2.2) X x) (hD : dc_ok D) (h1 : 1 ≤ D.1.length) (h20 : dc_last D ≤ 20) (hc : ch_can c D r1 r2 ss.length) (hr2 : c = 1 → r2 = 1) (hn : ss.length ≤ 20) (ho : w.1 o = some (eO c r1 r2 b D.2.1.length ss.length)) {e : Nat} {w1 : pw_W} {r : Nat} {Q : Option Nat → pw_W → Prop} (he : 11 ≤ e) (c1 : cx E w w1 c_no 4) (hr : c_ints w1.1 r (dc_row D (D.1.length - 1))) (H : ∀ (w2 : pw_W) (r' : Nat), cx E w1 w2 c_no 60 → c_ints w2.1 r' (ch_row c D r1 r2 ss.length) → Q (some r') w2) : f_F E w1 (some o) ⟨"VersionSearch$Edit", "of", "([I)[I"⟩ (some (.array .int)) e [va_rf (some r)] (c_r Q) := by
  obtain ⟨row, g1, g2, g3⟩ := dc_lastR hD h1
  have ho1 := c1.at ho
  have hD4 := hD.2.2.2.1
  unfold ch_row at H
  rw [g2] at hr H
  unfold eO at ho1
  obtain ⟨k0, k1, k2, k3, k4, k5⟩ := hc
  by_cases z0 : c = 0
  · rw [if_pos z0] at ho1 H
    obtain ⟨q1, q2⟩ := k0 z0
    exact dr_put_ok (by omega) c1.ok ho1 hr (by omega) (by omega) hD4 (by omega) (fun u r' cu hr' => H u r' (cu.le (by omega)) hr')
  rw [if_neg z0] at ho1 H
  by_cases z1 : c = 1
  · rw [if_pos z1] at ho1 H
    have := k1 z1
    have e1 := hr2 z1
    subst e1
    exact dr_cut_ok (by omega) c1.ok ho1 hr (by omega) (by omega) (fun u r' cu hr' => H u r' (cu.le (by omega)) hr')
  rw [if_neg z1] at ho1 H
  by_cases z2 : c = 2
  · rw [if_pos z2] at ho1 H
    obtain ⟨q1, q2⟩ := k2 z2
    refine dr_move_ok (by omega) c1.ok ho1 hr (by omega) (by omega) (by omega) (fun y hy => ?_) (fun u r' cu hr' => H u r' (cu.le (by omega)) hr')
    have := hD.1 row (List.mem_of_getElem? g1) y hy
    omega
  · rw [if_neg z2] at ho1 H
    obtain ⟨row', hr'⟩ := dc_get (l := D.1) (i := r1) (k3 (by omega))
    have hk1 : c_dX E w1.1 b (D.1, D.2.1 ++ ss, D.2.2) X x := hk.keep c1 (fun _ _ z => z) (fun _ _ _ z => z.elim)
    exact dr_back_ok (D := (D.1, D.2.1 ++ ss, D.2.2)) (by omega) ho1 hk1 hr' (fun r' h' => H w1 r' (cx.refl c1.ok) (by rw [(hD.row hr').2.2.2.1]; exact h'))
/-- what is drawn of a document -/
theorem dr_edit_ok {K : Option Nat → pw_W → Prop} (hd : 90 ≤ d) (hw : wf E w) (hdr : w.1 dr = some (17, [va_rf (some a), .int (iI (d_next s0))])) (hbd : pw_base E ≤ dr) (hk : c_dX E w.1 b D (dc_set D.1) x) (hD : dc_ok D) (h1 : 1 ≤ D.1.length) (h10 : D.1.length ≤ 10) (h20 : dc_last D ≤ 20) (hl : D.2.1.length + 1 ≤ 1000)
    (H : ∀ (u : pw_W) (x' : dX) (o : Option Nat) (ss : List (List Int)) (cc : Nat), cx E w u (fun q => q = dr ∨ d_F x q) cc → cc + 8 * x.2.1.2.2.1 ≤ 8 * x'.2.1.2.2.1 + 80 → u.1 dr = some (17, [va_rf (some a), .int (iI (dw D s0).2)]) → c_dX E u.1 b (D.1, D.2.1 ++ ss, D.2.2) (dc_set D.1) x' → (∀ q, d_F x' q → d_F x q ∨ w.2.1 ≤ q) → (match (dw D s0).1 with | none => o = none ∧ ss = [] | some e => ss = e.2.2.2 ∧ ∃ o', o = some o' ∧ w.2.1 ≤ o' ∧ u.1 o' = some (eO e.1 e.2.1 e.2.2.1 b D.2.1.length ss.length)) → K o u) : pw_Cl E m_X18_edit d [va_rf (some dr), va_rf (some b), .int (iI (d_val s0 6))] w (c_r K) := by
  replace hd := pw_d1 hd; obtain ⟨e, rfl, hd⟩ := hd
  have vw := d_val_r (s := s0) (n := 6) (by omega)
  have eqw := fun k (hk : rI k) => iI_eq (a := d_val s0 6) (b := k) (rI_small (by omega) (by omega)) hk
  have w0 := eqw 5 (rI_small (by omega) (by omega)); have w2 := eqw 2 (rI_small (by omega) (by omega)); have w3 := eqw 3 (rI_small (by omega) (by omega))
  have ndx : ∀ q, d_F x q → q ≠ dr := fun q hq e => by
    subst e
    obtain ⟨o, g1, g2, -⟩ := d_F_kind hw hk hq
    rw [hdr] at g1; cases g1
    rcases g2 with g2 | g2 | g2 <;> cases g2
  have kfix : ∀ (q : Nat) (o : pw_O), w.1 q = some o → q = dr → k_fix o := fun q o ho e => by
    subst e
    rw [hdr] at ho; cases ho
    exact ⟨(by decide : (17 : Nat) ≠ 6), (by decide : (17 : Nat) ≠ 1000), (by decide : (17 : Nat) ≠ 21), (by decide : (17 : Nat) ≠ 1001), (by decide : (17 : Nat) ≠ 28)⟩
  -- below, asked
  have below : ∀ (n s : Int) (v : pw_W) (cc : Nat) (K : Int32 → pw_W → Prop), 0 < n ∧ n < 1000 → cx E w v (fun q => q = dr) cc → v.1 dr = some (17, [va_rf (some a), .int (iI s)]) → (∀ u, cx E w u (fun q => q = dr) cc → u.1 dr = some (17, [va_rf (some a), .int (iI (d_next s))]) → u.2 = v.2 → K (iI (d_val s n)) u) → f_V E v (some dr) 17 m_X18_below e [.int (iI n)] (c_i K) := by
    intro n s v cc K hn cv hv hK
    exact ⟨dr, _, rfl, hv, dr_below_ok (by omega) cv.ok hbd hn hv (fun u cu hu hu2 => hK u ((cv.tr cu).le (by omega)) hu2 hu)⟩
  have hkv : ∀ (v : pw_W) (cc : Nat), cx E w v (fun q => q = dr) cc → c_dX E v.1 b D (dc_set D.1) x := fun v cc cv => hk.keep cv ndx kfix
  have sub : ∀ (v : pw_W) (cc : Nat), cx E w v (fun q => q = dr) cc → cx E w v (fun q => q = dr ∨ d_F x q) cc := fun v cc cv => cv.mono (fun q o _ hq => Or.inl hq) (Nat.le_refl _)
  have app0 : (D.1, D.2.1 ++ ([] : List (List Int)), D.2.2) = D := by rw [List.append_nil]
  -- a new Edit object
  have fin : ∀ (v : pw_W) (c r1 r2 n : Nat) (s : Int), cx E w v (fun q => q = dr) 0 → v.1 dr = some (17, [va_rf (some a), .int (iI s)]) → dw D s0 = (some (c, r1, r2, []), s) → K (some v.2.1) (pw_new v (eO c r1 r2 b D.2.1.length 0) n) ∨ True := fun _ _ _ _ _ _ _ _ _ => Or.inr trivial
  have mk : ∀ (v : pw_W) (c r1 r2 n : Nat) (s : Int), n ≤ 4 → cx E w v (fun q => q = dr) 0 → v.1 dr = some (17, [va_rf (some a), .int (iI s)]) → dw D s0 = (some (c, r1, r2, []), s) → K (some v.2.1) (pw_new v (eO c r1 r2 b D.2.1.length 0) n) := by
    intro v c r1 r2 n s hn cv hv hdw
    have cn : cx E v (pw_new v (eO c r1 r2 b D.2.1.length 0) n) c_no (n + 4) := cx.new cv.ok _ n
    refine H _ x _ [] (0 + (n + 4)) (sub _ _ (cv.tr cn.no)) (by omega) (by rw [hdw]; exact cn.at hv) (by rw [app0]; exact (hkv v 0 cv).keep cn (fun _ _ z => z) (fun _ _ _ z => z.elim)) (fun q hq => Or.inl hq) ?_
    rw [hdw]
    exact ⟨rfl, v.2.1, rfl, cv.le1, pw_new_1 _ _ _⟩
  have none' : ∀ (v : pw_W) (s : Int), cx E w v (fun q => q = dr) 0 → v.1 dr = some (17, [va_rf (some a), .int (iI s)]) → dw D s0 = (none, s) → K none v := by
    intro v s cv hv hdw
    refine H v x none [] 0 (sub v 0 cv) (by omega) (by rw [hdw]; exact hv) (by rw [app0]; exact hkv v 0 cv) (fun q hq => Or.inl hq) ?_
    rw [hdw]
    exact ⟨rfl, rfl⟩
  have r0 : cx E w w (fun q => q = dr) 0 := cx.refl hw
  refine e_X18_edit _ _ _ (s_X18_edit_0 _ _ _ (hk.size (by omega) hD h1 ?_))
  by_cases m5 : d_val s0 6 = 5
  · refine ifT (by rw [show (5 : Int32) = iI 5 from rfl, w0]; exact m5) (hk.many (by omega) (below D.1.length _ w 0 _ (by omega) r0 hdr (fun u cu hu _ => ⟨by omega, _, rfl, ?_⟩)))
    have vr := d_val_r (s := d_next s0) (n := D.1.length) (by omega)
    have := mk u 3 (d_val (d_next s0) D.1.length).toNat 0 2 _ (by omega) cu hu (by unfold dw; rw [if_pos m5])
    have ev : (((d_val (d_next s0) D.1.length).toNat : Nat) : Int) = d_val (d_next s0) D.1.length := by omega
    unfold eO at this
    rw [if_neg (by decide), if_neg (by decide), if_neg (by decide), ev] at this
    exact this
  refine ifF (by rw [show (5 : Int32) = iI 5 from rfl, w0]; exact m5) ?_
  -- a put
  have put : (d_val s0 6 = 2 ∨ d_val s0 6 = 3) → f_getr w (some b) 6 1 (fun x6 => f_V E w x6 18 m_J2_isEmpty e [] (c_z (fun b11 w10 => if bI b11 = 0 then f_V E w10 (some dr) 17 m_X18_below e [.int (iI (dc_last D : Nat) + 1)] (c_i (fun x16 w15 => f_V E w15 (some dr) 17 m_X18_put e [va_rf (some b), .int x16] (c_r (fun o21 w20 => c_r K (.inl (some (va_rf o21))) w20)))) else c_r K (.inl (some (va_rf none))) w10))) := by
    intro m23
    obtain ⟨k1, k2, k3, k4, -, ⟨k7, k8⟩, -⟩ := id hk
    refine ⟨b, _, _, rfl, k1, rfl, x.2.1.1, _, rfl, k3.1, cl_isEmpty_ok (by omega) k3 ?_⟩
    cases hD1 : D.2.1 with
    | nil =>
      have e0 : x.2.2.2.2.1.length = 0 := by rw [k7, hD1]; rfl
      rw [List.length_map, e0]
      refine ifF (by decide) ⟨_, rfl, none' w _ r0 hdr ?_⟩
      unfold dw
      rw [if_neg m5, if_pos m23, hD1]
    | cons t0 l0 =>
      have e0 : x.2.2.2.2.1.length ≠ 0 := by rw [k7, hD1]; simp
      rw [List.length_map, decide_eq_false e0]
      have ea : iI (dc_last D : Nat) + 1 = iI ((dc_last D : Nat) + 1) := iI_add _ 1
      rw [ea]
      have vr := d_val_r (s := d_next s0) (n := (dc_last D : Int) + 1) (by omega)
      have hdw : dw D s0 = (if dc_last D = 20 ∨ D.1.length = 10 then none else some (0, (d_val (d_next s0) ((dc_last D : Int) + 1)).toNat, 0, [t0]), d_next (d_next s0)) := by
        unfold dw
        rw [if_neg m5, if_pos m23, hD1]
      refine ifT (by decide) (below _ _ w 0 _ (by omega) r0 hdr (fun u cu hu _ => ?_))
      have ev : iI (d_val (d_next s0) ((dc_last D : Int) + 1)) = iI (((d_val (d_next s0) ((dc_last D : Int) + 1)).toNat : Nat) : Int) := by rw [show (((d_val (d_next s0) ((dc_last D : Int) + 1)).toNat : Nat) : Int) = d_val (d_next s0) ((dc_last D : Int) + 1) by omega]
      rw [ev]
      have hku := hkv u 0 cu
      refine ⟨dr, _, rfl, hu, dr_putE_ok (s0 := t0) (by omega) cu.ok hku hD h1 (by rw [hD1]; rfl) hl (fun z => ⟨_, rfl, none' u _ cu hu (by rw [hdw, if_pos z])⟩) (fun z1 z2 v x' o cc cv hcc hkx hn hlo hob => ⟨_, rfl, ?_⟩)⟩
      have z : ¬ (dc_last D = 20 ∨ D.1.length = 10) := by omega
      refine H v x' (some o) [t0] (0 + cc) ((sub u 0 cu).tr (cv.mono (fun q o _ hq => Or.inr hq) (Nat.le_refl _))) (by omega) (by rw [hdw]; exact cv.keep hu (fun hq => ndx dr hq rfl)) hkx (fun q hq => (hn q hq).elim Or.inl (fun hq => Or.inr (by have := cu.le1; omega))) ?_
      rw [hdw, if_neg z]
      exact ⟨rfl, o, rfl, by have := cu.le1; omega, hob⟩
  by_cases m2 : d_val s0 6 = 2
  · exact ifT (by rw [show (2 : Int32) = iI 2 from rfl, w2]; exact m2) (put (Or.inl m2))
  refine ifF (by rw [show (2 : Int32) = iI 2 from rfl, w2]; exact m2) ?_
  by_cases m3 : d_val s0 6 = 3
  · exact ifT (by rw [show (3 : Int32) = iI 3 from rfl, w3]; exact m3) (put (Or.inr m3))
  refine ifF (by rw [show (3 : Int32) = iI 3 from rfl, w3]; exact m3) ?_
  have m23 : ¬ (d_val s0 6 = 2 ∨ d_val s0 6 = 3) := by omega
  have el : (iI (dc_last D : Nat) = 0) = (dc_last D = 0) := iI_eqn (b := 0) (by omega) (by omega)
  by_cases l0 : dc_last D = 0
  · refine ifT (by rw [el]; exact l0) ⟨_, rfl, none' w _ r0 hdr ?_⟩
    unfold dw
    rw [if_neg m5, if_neg m23, if_pos l0]
  refine ifF (by rw [el]; exact l0) (below _ _ w 0 _ (by omega) r0 hdr (fun u cu hu _ => ?_))
  have vr := d_val_r (s := d_next s0) (n := (dc_last D : Nat)) (by omega)
  have ev : (((d_val (d_next s0) (dc_last D : Nat)).toNat : Nat) : Int) = d_val (d_next s0) (dc_last D : Nat) := by omega
  have l2 : ((2 : Int32) ≤ iI (d_val s0 6)) = (2 ≤ d_val s0 6) := iI_le (a := 2) (rI_small (by omega) (by omega)) (rI_small (by omega) (by omega))
  by_cases m4 : 2 ≤ d_val s0 6
  · refine ifT (by rw [l2]; exact m4) (below _ _ u 0 _ (by omega) cu hu (fun u2 cu2 hu2 _ => ⟨by omega, _, rfl, ?_⟩))
    have vr2 := d_val_r (s := d_next (d_next s0)) (n := (dc_last D : Nat)) (by omega)
    have ev2 : (((d_val (d_next (d_next s0)) (dc_last D : Nat)).toNat : Nat) : Int) = d_val (d_next (d_next s0)) (dc_last D : Nat) := by omega
    have := mk u2 2 (d_val (d_next s0) (dc_last D : Nat)).toNat (d_val (d_next (d_next s0)) (dc_last D : Nat)).toNat 2 _ (by omega) cu2 hu2 (by unfold dw; rw [if_neg m5, if_neg m23, if_neg l0, if_neg (by omega)])
    unfold eO at this
    rw [if_neg (by decide), if_neg (by decide), if_pos rfl, ev, ev2] at this
    exact this
  · refine ifF (by rw [l2]; exact m4) ⟨by omega, _, rfl, ?_⟩
    have := mk u 1 (d_val (d_next s0) (dc_last D : Nat)).toNat 1 1 _ (by omega) cu hu (by unfold dw; rw [if_neg m5, if_neg m23, if_neg l0, if_pos (by omega)])
    unfold eO at this
    rw [if_neg (by decide), if_pos rfl, ev] at this
    exact this
end
