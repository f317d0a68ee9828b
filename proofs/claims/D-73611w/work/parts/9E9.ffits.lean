set_option maxRecDepth 100000
/-! the component: fits, answered as the twin does -/
section
variable {E : pw_E} {d : Nat} {w : pw_W} {z : pw_H} {f s ka : Nat} {x : sX} {V : sS} {A B : Nat → Int}
theorem fx_fits_ok {i t q : Int} {K : Int32 → pw_W → Prop} (hd : 200 ≤ d) (hw : wf E w) (h : s_fc E z w.1 f s ka x V) (hi : rI i) (ht : rI t) (hq : rI q) (hR : s_isA V i = true → s_rl A (s_A V i)) (hF : s_isH V t = true → hr B t (s_H V t).2) (H : (fun y => ∀ w', cx E w w' c_no 42700 → K (iI y) w') (if s_isH V t = true then (if s_isA V i = true then h_fits A B t q else -2) else -2)) : pw_Cl E m_X0_fits d [va_rf (some f), .int (iI i), .int (iI t), .int (iI q)] w (c_i K) := by
  replace hd := pw_d1 hd; obtain ⟨e, rfl, hd⟩ := hd
  have r0 : cx E w w c_no 42700 := cx.refl hw
  refine e_X0_fits _ _ _ _ (s_X0_fits_0 _ _ _ _ (q_isA (by omega) h hi ?_))
  cases c1 : s_isA V i with
  | false =>
    have e9 : (if s_isH V t = true then (if s_isA V i = true then h_fits A B t q else -2) else -2) = -2 := by rw [c1]; split <;> rfl
    rw [e9] at H
    exact ifT (by rw [bI_0]) ⟨_, rfl, H w r0⟩
  | true =>
    refine ifF (by rw [bI_0]; decide) (q_isH (by omega) h ht ?_)
    cases c2 : s_isH V t with
    | false =>
      rw [if_neg (by rw [c2]; decide)] at H
      exact ifT (by rw [bI_0]) ⟨_, rfl, H w r0⟩
    | true =>
      rw [if_pos c2, if_pos c1] at H
      refine ifF (by rw [bI_0]; decide) ?_
      obtain ⟨g, hr, -⟩ := hR c1
      obtain ⟨-, ha, hok, hw4, -⟩ := h.A c1
      have l0 : (iI q < 0) = (q < 0) := iI_lt (b := 0) hq (rI_small (by omega) (by omega))
      have fit := fun (XS : List (List Int)) (hX : wl_ok A (s_A V i).2.1 XS) (hl : XS.length ≤ 800) => hr.fits (hF c2) hX hl hq
      -- words there are, whatever is asked
      by_cases n0 : q < 0
      · refine ifT (by rw [l0]; exact n0) ⟨_, rfl, ?_⟩
        unfold h_fits at H
        rw [if_pos (by omega), if_neg (by omega), if_neg (by omega), if_neg (by omega)] at H
        exact H w r0
      refine ifF (by rw [l0]; exact n0) (c_isIn_ok (a := 3) (b := 9) (by omega) hq (rI_small (by omega) (by omega)) (rI_small (by omega) (by omega)) ?_)
      by_cases m : 3 ≤ q ∧ q ≤ 9
      · rw [decide_eq_true m]
        refine ifF (by decide) ⟨_, rfl, ?_⟩
        unfold h_fits at H
        rw [if_pos (by omega), if_neg (by omega), if_neg (by omega), if_neg (by omega)] at H
        exact H w r0
      rw [decide_eq_false m]
      refine ifT (by decide) ?_
      have k1 : cx E w (pw_new w (16, [va_rf none, va_rf none]) 2) c_no 6 := cx.new hw _ 2
      have h1 : s_fc E z (pw_new w (16, [va_rf none, va_rf none]) 2).1 f s ka x V := h.mono k1.sub1
      have hth : (pw_new w (16, [va_rf none, va_rf none]) 2).1 w.2.1 = some (16, [va_rf none, va_rf none]) := pw_new_1 _ _ _
      show f_V E (pw_new w (16, [va_rf none, va_rf none]) 2) (some f) 0 m_X0_archiveOf _ _ _
      refine q_archiveOf (by omega) h1 c1 (q_listH (by omega) h1 c2 (fun _ hfo hf8 => ?_))
      obtain ⟨n9, e9, hn9⟩ := s_isH_at c2
      have hfc := (h.2.2.2.1.2.2 _ (List.mem_of_getElem? hn9)).1.mono h.2.2.1
      refine hu_init_ok (z := w.1) (by omega) k1.ok k1.sub1 (hw.2.1 _ (Nat.le_refl _)) hth hw.b ha hok hw4 hfc hfo (fun v wl XS ws mc b cap k2 hzv hhu hal hwl hwe hl8 hXl hXs hXk => ?_)
      have hX := hr.wl hXl hXs hXk
      have H := H
      rw [fit XS hX hl8] at H
      have k3 : cx E w v c_no 42006 := (cx.tn hw k1 k2 (fun q e => Or.inr (by have e : q = w.2.1 := e; omega))).le (by omega)
      have hSl : (XS.filter (hu_so (s_A V i).2.1 (s_H V t).2)).length ≤ 800 := Nat.le_trans (List.length_filter_le _ _) hl8
      have hSw : ∀ s' ∈ XS.filter (hu_so (s_A V i).2.1 (s_H V t).2), (∀ c ∈ s', 97 ≤ c ∧ c ≤ 122) ∧ 1 ≤ s'.length ∧ s'.length ≤ 4 := fun s' hs' => hXl s' (List.mem_filter.mp hs').1
      generalize XS.filter (hu_so (s_A V i).2.1 (s_H V t).2) = SS at hwl hwe H hSl hSw
      have hcw : c_hw E v.1 wl SS := ⟨mc, b, cap, ws, hal, hwl, hwe, hSl⟩
      have eq := fun k (hk : rI k) => iI_eq (a := q) (b := k) hq hk
      have e0 := eq 0 (rI_small (by omega) (by omega)); have e1 := eq 1 (rI_small (by omega) (by omega)); have e2 := eq 2 (rI_small (by omega) (by omega))
      by_cases q0 : q = 0
      · rw [if_pos q0] at H
        refine ifT (by rw [show (0 : Int32) = iI 0 from rfl, e0]; exact q0) ⟨w.2.1, _, _, rfl, hhu, rfl, wl, _, rfl, hal.1, cl_size_ok (by omega) hal ⟨_, rfl, ?_⟩⟩
        rw [List.length_map, hwl]
        exact H v (k3.le (by omega))
      refine ifF (by rw [show (0 : Int32) = iI 0 from rfl, e0]; exact q0) ?_
      by_cases q1 : q = 1
      · rw [if_neg q0, if_pos q1] at H
        exact ifT (by rw [show (1 : Int32) = iI 1 from rfl, e1]; exact q1) ⟨w.2.1, _, rfl, hhu, hu_sure_ok (by omega) k3.ok hhu hcw (fun s' hs' => (hSw s' hs').2.1) (fun w' c' => ⟨_, rfl, H w' ((k3.tr c').le (by omega))⟩)⟩
      refine ifF (by rw [show (1 : Int32) = iI 1 from rfl, e1]; exact q1) ?_
      by_cases q2 : q = 2
      · rw [if_neg q0, if_neg q1, if_pos q2] at H
        have hsv : c_sub w.1 v.1 := hzv
        exact ifT (by rw [show (2 : Int32) = iI 2 from rfl, e2]; exact q2) ⟨w.2.1, _, rfl, hhu, hu_ask_ok (by omega) k3.ok (ha.mono hsv hsv) hok hhu hcw (fun w' c' => ⟨_, rfl, H w' ((k3.tr c').le (by omega))⟩)⟩
      refine ifF (by rw [show (2 : Int32) = iI 2 from rfl, e2]; exact q2) ⟨w.2.1, _, _, rfl, hhu, rfl, wl, _, rfl, hal.1, cl_size_ok (by omega) hal ?_⟩
      rw [if_neg q0, if_neg q1, if_neg q2, if_pos (by omega)] at H
      rw [List.length_map, hwl]
      have eqn : iI q - 10 = iI ((q - 10).toNat : Nat) := by rw [show (((q - 10).toNat : Nat) : Int) = q - 10 by omega]; exact iI_sub q 10
      rw [eqn]
      have ll : (iI (SS.length : Nat) ≤ iI ((q - 10).toNat : Nat)) = (((SS.length : Nat) : Int) ≤ ((q - 10).toNat : Nat)) := iI_le (rI_small (by omega) (by omega)) (by have := hq.2; constructor <;> omega)
      by_cases m9 : ((SS.length : Nat) : Int) ≤ ((q - 10).toNat : Nat)
      · rw [List.getElem?_eq_none_iff.mpr (by omega)] at H
        exact ifT (by rw [ll]; exact m9) ⟨_, rfl, H v (k3.le (by omega))⟩
      · obtain ⟨s', hs'⟩ := dc_get (l := SS) (i := (q - 10).toNat) (by omega)
        obtain ⟨w', hw'⟩ := dc_get (l := ws) (i := (q - 10).toNat) (by omega)
        rw [hs'] at H
        have hst := hwe _ w' s' hw' hs'
        obtain ⟨sb, sv2, sv3, st1, st2⟩ := id hst
        exact ifF (by rw [ll]; exact m9) ⟨w.2.1, _, _, rfl, hhu, rfl, wl, _, rfl, hal.1, cl_get_ok (i := (q - 10).toNat) (x := some w') (by omega) hal (by rw [List.getElem?_map, hw']; rfl) ⟨Or.inr ⟨w', 21, _, rfl, st1, c_canS⟩, cs_code_ok (by omega) k3.ok hst ⟨_, rfl, H v (k3.le (by omega))⟩⟩⟩
end
