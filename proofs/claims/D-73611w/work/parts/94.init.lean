set_option maxRecDepth 100000
/-! the twin is made -/
/-- while the twin is made: n arrays are there -/
def ti (w : pw_W) (m : Nat) (fs : List Value) (n s : Nat) : pw_W := (fun q => if q = m then some (2, fs) else if m < q ∧ q ≤ m + n then some (tw_ak (q - m), List.replicate (tw_len (q - m)) (.int 0)) else w.1 q, m + (n + 1), s)
def S_0 : tw_S := (fun _ => 0, 0, fun k i => if k = 4 ∧ i = 0 then -1 else 0)
theorem ti_step {E : pw_E} {w : pw_W} {m n s j t : Nat} {fs : List Value} {len : Int32} {K : pw_W → Prop} (hm : pw_base E ≤ m) (hl : ¬ len < 0 ∧ len.toNatClampNeg ≤ 100000000) (ht : 1000 + t = tw_ak (n + 1)) (hn : len.toNatClampNeg = tw_len (n + 1)) (H : K (ti w m (fs.set j (va_rf (some (m + (n + 1))))) (n + 1) (s + tw_len (n + 1)))) : f_newa (ti w m fs n s) t len (.int 0) (fun w1 => f_put E w1 (some m) 2 j (va_rf (some (ti w m fs n s).2.1)) K) := by
  refine ⟨hl.1, hl.2, m, fs, rfl, ?_, hm, ?_⟩
  · rw [pw_new_ne (show m ≠ m + (n + 1) by omega)]
    show (if m = m then some (2, fs) else _) = _
    rw [if_pos rfl]
  · have e : pw_up (pw_new (ti w m fs n s) (1000 + t, List.replicate len.toNatClampNeg (.int 0)) len.toNatClampNeg) m (2, fs.set j (va_rf (some (ti w m fs n s).2.1))) = ti w m (fs.set j (va_rf (some (m + (n + 1))))) (n + 1) (s + tw_len (n + 1)) := by
      rw [hn, ht]
      refine Prod.ext (funext fun q => ?_) rfl
      by_cases hq : q = m
      · rw [hq, pw_up_1]
        show _ = (if m = m then some (2, fs.set j (va_rf (some (m + (n + 1))))) else _)
        rw [if_pos rfl]
        rfl
      · rw [pw_up_ne hq]
        show _ = (if q = m then _ else if m < q ∧ q ≤ m + (n + 1) then some (tw_ak (q - m), List.replicate (tw_len (q - m)) (.int 0)) else w.1 q)
        rw [if_neg hq]
        by_cases hq2 : q = m + (n + 1)
        · rw [if_pos (by omega), hq2]
          have : (pw_new (ti w m fs n s) (tw_ak (n + 1), List.replicate (tw_len (n + 1)) (.int 0)) (tw_len (n + 1))).1 (m + (n + 1)) = some (tw_ak (n + 1), List.replicate (tw_len (n + 1)) (.int 0)) := pw_new_1 (ti w m fs n s) _ _
          rw [this, show m + (n + 1) - m = n + 1 by omega]
        · rw [pw_new_ne (show q ≠ (ti w m fs n s).2.1 from hq2)]
          show (if q = m then some (2, fs) else if m < q ∧ q ≤ m + n then some (tw_ak (q - m), List.replicate (tw_len (q - m)) (.int 0)) else w.1 q) = _
          rw [if_neg hq]
          by_cases h9 : m < q ∧ q ≤ m + n
          · rw [if_pos h9, if_pos (by omega)]
          · rw [if_neg h9, if_neg (by omega)]
    rw [e]
    exact H
theorem pw_df2 : pw_df 2 = (List.range 37).map (fun j => if j = 14 then Value.long 0 else if tw_off j = 0 then Value.int 0 else va_rf none) := rfl
theorem m_X2_init_ok {E : pw_E} {d m : Nat} {w : pw_W} {Post : pw_R → pw_W → Prop} (hm : pw_base E ≤ m) (hd : 1 ≤ d) (h1 : w.1 m = some (2, pw_df 2)) (h2 : w.2.1 = m + 1) (H : Post (.inl none) (tw (w.1, m + 17, w.2.2 + 17954) m S_0)) : pw_Cl E m_X2_init d [va_rf (some m)] w Post := by
  obtain ⟨e, rfl, he⟩ := pw_d1 hd
  have e0 : w = ti w m (pw_df 2) 0 w.2.2 := by
    refine Prod.ext (funext fun q => ?_) (Prod.ext h2 rfl)
    show w.1 q = (if q = m then some (2, pw_df 2) else if m < q ∧ q ≤ m + 0 then _ else w.1 q)
    by_cases hq : q = m
    · rw [if_pos hq, hq, h1]
    · rw [if_neg hq, if_neg (by omega)]
  rw [e0]
  refine e_X2_init m (s_X2_init_0 m ?_)
  refine ti_step hm ⟨by decide, by decide⟩ rfl rfl (ti_step hm ⟨by decide, by decide⟩ rfl rfl (ti_step hm ⟨by decide, by decide⟩ rfl rfl (ti_step hm ⟨by decide, by decide⟩ rfl rfl (ti_step hm ⟨by decide, by decide⟩ rfl rfl (ti_step hm ⟨by decide, by decide⟩ rfl rfl (ti_step hm ⟨by decide, by decide⟩ rfl rfl (ti_step hm ⟨by decide, by decide⟩ rfl rfl (ti_step hm ⟨by decide, by decide⟩ rfl rfl (ti_step hm ⟨by decide, by decide⟩ rfl rfl (ti_step hm ⟨by decide, by decide⟩ rfl rfl (ti_step hm ⟨by decide, by decide⟩ rfl rfl (ti_step hm ⟨by decide, by decide⟩ rfl rfl (ti_step hm ⟨by decide, by decide⟩ rfl rfl (ti_step hm ⟨by decide, by decide⟩ rfl rfl (ti_step hm ⟨by decide, by decide⟩ rfl rfl ?_)))))))))))))))
  have ef : ((((((((((((((((pw_df 2).set 1 (va_rf (some (m + (0 + 1))))).set 2 (va_rf (some (m + (0 + 1 + 1))))).set 3 (va_rf (some (m + (0 + 1 + 1 + 1))))).set 4 (va_rf (some (m + (0 + 1 + 1 + 1 + 1))))).set 5 (va_rf (some (m + (0 + 1 + 1 + 1 + 1 + 1))))).set 6 (va_rf (some (m + (0 + 1 + 1 + 1 + 1 + 1 + 1))))).set 7 (va_rf (some (m + (0 + 1 + 1 + 1 + 1 + 1 + 1 + 1))))).set 8 (va_rf (some (m + (0 + 1 + 1 + 1 + 1 + 1 + 1 + 1 + 1))))).set 18 (va_rf (some (m + (0 + 1 + 1 + 1 + 1 + 1 + 1 + 1 + 1 + 1))))).set 19 (va_rf (some (m + (0 + 1 + 1 + 1 + 1 + 1 + 1 + 1 + 1 + 1 + 1))))).set 20 (va_rf (some (m + (0 + 1 + 1 + 1 + 1 + 1 + 1 + 1 + 1 + 1 + 1 + 1))))).set 26 (va_rf (some (m + (0 + 1 + 1 + 1 + 1 + 1 + 1 + 1 + 1 + 1 + 1 + 1 + 1))))).set 27 (va_rf (some (m + (0 + 1 + 1 + 1 + 1 + 1 + 1 + 1 + 1 + 1 + 1 + 1 + 1 + 1))))).set 29 (va_rf (some (m + (0 + 1 + 1 + 1 + 1 + 1 + 1 + 1 + 1 + 1 + 1 + 1 + 1 + 1 + 1))))).set 34 (va_rf (some (m + (0 + 1 + 1 + 1 + 1 + 1 + 1 + 1 + 1 + 1 + 1 + 1 + 1 + 1 + 1 + 1))))).set 36 (va_rf (some (m + (0 + 1 + 1 + 1 + 1 + 1 + 1 + 1 + 1 + 1 + 1 + 1 + 1 + 1 + 1 + 1 + 1)))) = tw_fs m S_0 := by
    rw [pw_df2]
    rfl
  rw [ef]
  refine ⟨m, tw_fs m S_0, some (m + 4), rfl, ?_, ?_, ?_⟩
  · show (if m = m then some (2, tw_fs m S_0) else _) = _
    rw [if_pos rfl]
  · rfl
  · refine ⟨m + 4, List.replicate 4 (.int 0), rfl, ?_, by omega, by decide, by decide, ?_⟩
    · show (if m + 4 = m then _ else if m < m + 4 ∧ m + 4 ≤ m + 16 then some (tw_ak (m + 4 - m), List.replicate (tw_len (m + 4 - m)) (Value.int 0)) else _) = _
      rw [if_neg (by omega), if_pos (by omega), show m + 4 - m = 4 by omega]
      rfl
    · have ew : pw_up (ti w m (tw_fs m S_0) (0 + 1 + 1 + 1 + 1 + 1 + 1 + 1 + 1 + 1 + 1 + 1 + 1 + 1 + 1 + 1 + 1) (w.2.2 + tw_len (0 + 1) + tw_len (0 + 1 + 1) + tw_len (0 + 1 + 1 + 1) + tw_len (0 + 1 + 1 + 1 + 1) + tw_len (0 + 1 + 1 + 1 + 1 + 1) + tw_len (0 + 1 + 1 + 1 + 1 + 1 + 1) + tw_len (0 + 1 + 1 + 1 + 1 + 1 + 1 + 1) + tw_len (0 + 1 + 1 + 1 + 1 + 1 + 1 + 1 + 1) + tw_len (0 + 1 + 1 + 1 + 1 + 1 + 1 + 1 + 1 + 1) + tw_len (0 + 1 + 1 + 1 + 1 + 1 + 1 + 1 + 1 + 1 + 1) + tw_len (0 + 1 + 1 + 1 + 1 + 1 + 1 + 1 + 1 + 1 + 1 + 1) + tw_len (0 + 1 + 1 + 1 + 1 + 1 + 1 + 1 + 1 + 1 + 1 + 1 + 1) + tw_len (0 + 1 + 1 + 1 + 1 + 1 + 1 + 1 + 1 + 1 + 1 + 1 + 1 + 1) + tw_len (0 + 1 + 1 + 1 + 1 + 1 + 1 + 1 + 1 + 1 + 1 + 1 + 1 + 1 + 1) + tw_len (0 + 1 + 1 + 1 + 1 + 1 + 1 + 1 + 1 + 1 + 1 + 1 + 1 + 1 + 1 + 1) + tw_len (0 + 1 + 1 + 1 + 1 + 1 + 1 + 1 + 1 + 1 + 1 + 1 + 1 + 1 + 1 + 1 + 1))) (m + 4) (1000, (List.replicate 4 (Value.int 0)).set (Int32.toNatClampNeg 0) (.int (-1))) = tw (w.1, m + 17, w.2.2 + 17954) m S_0 := by
        refine Prod.ext (funext fun q => ?_) rfl
        by_cases h4 : q = m + 4
        · rw [h4, pw_up_1]
          show _ = (if m + 4 = m then _ else if m < m + 4 ∧ m + 4 ≤ m + 16 then some (tw_ak (m + 4 - m), tw_av S_0 (m + 4 - m)) else _)
          rw [if_neg (by omega), if_pos (by omega), show m + 4 - m = 4 by omega]
          rfl
        · rw [pw_up_ne h4]
          show (if q = m then some (2, tw_fs m S_0) else if m < q ∧ q ≤ m + 16 then some (tw_ak (q - m), List.replicate (tw_len (q - m)) (Value.int 0)) else w.1 q) = (if q = m then some (2, tw_fs m S_0) else if m < q ∧ q ≤ m + 16 then some (tw_ak (q - m), tw_av S_0 (q - m)) else w.1 q)
          by_cases hq : q = m
          · rw [if_pos hq, if_pos hq]
          · rw [if_neg hq, if_neg hq]
            by_cases h9 : m < q ∧ q ≤ m + 16
            · rw [if_pos h9, if_pos h9]
              have : tw_av S_0 (q - m) = List.replicate (tw_len (q - m)) (Value.int 0) := by
                unfold tw_av
                refine List.ext_getElem? (fun i => ?_)
                rw [List.getElem?_map, List.getElem?_replicate]
                by_cases hi : i < tw_len (q - m)
                · rw [List.getElem?_range hi, if_pos hi]
                  show some (Value.int (iI (if q - m = 4 ∧ i = 0 then -1 else 0))) = _
                  rw [if_neg (by omega)]
                  rfl
                · rw [List.getElem?_eq_none (by simp; omega), if_neg hi]
                  rfl
              rw [this]
            · rw [if_neg h9, if_neg h9]
      rw [ew]
      exact H
