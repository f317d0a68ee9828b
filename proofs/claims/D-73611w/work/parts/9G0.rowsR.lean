set_option maxRecDepth 100000
/-! rows of the methods of a reader, of any of the three kinds (printed by genr.py) -/
def m_line (k : Nat) : pw_M := if k = 3 then m_X4_line else if k = 8 then m_X9_line else m_X10_line
theorem s_X3_also_k3_0 {E : pw_E} {d : Nat} {w : pw_W} {Post : pw_R → pw_W → Prop} (v0 : Option Nat) (v1 : Int32) (v2 : Int32) (H : f_getr w v0 3 7 (fun x1 => (if x1 = none then (fun w5 => pw_Cl E m_X6_init d (va_rf (some w.2.1) :: [.int v1, .int v2]) w5 (c_v (fun w6 => f_put E w6 v0 3 7 (va_rf (some w.2.1)) (fun w10 => Post (.inl none) w10)))) (pw_new w (5, [va_rf none, va_rf none, va_rf none, va_rf none, va_rf none, .int 0, .int 0, .int 0]) 8) else f_getr w v0 3 7 (fun x11 => f_geti w x11 5 7 (fun x15 => (if v2 < x15 then (fun w19 => pw_Cl E m_X6_init d (va_rf (some w.2.1) :: [.int v1, .int v2]) w19 (c_v (fun w20 => f_put E w20 v0 3 7 (va_rf (some w.2.1)) (fun w24 => Post (.inl none) w24)))) (pw_new w (5, [va_rf none, va_rf none, va_rf none, va_rf none, va_rf none, .int 0, .int 0, .int 0]) 8) else f_getr w v0 3 7 (fun x25 => f_geti w x25 5 7 (fun x29 => (if v2 = x29 then f_getr w v0 3 7 (fun x33 => f_geti w x33 5 6 (fun x37 => (if x37 ≤ v1 then Post (.inl none) w else (fun w41 => pw_Cl E m_X6_init d (va_rf (some w.2.1) :: [.int v1, .int v2]) w41 (c_v (fun w42 => f_put E w42 v0 3 7 (va_rf (some w.2.1)) (fun w46 => Post (.inl none) w46)))) (pw_new w (5, [va_rf none, va_rf none, va_rf none, va_rf none, va_rf none, .int 0, .int 0, .int 0]) 8)))) else Post (.inl none) w))))))))) : pw_Wp E m_X3_also (d + 1) 0 [some (va_rf v0), some (.int v1), some (.int v2)] [] w Post := by
  refine r_aload_n (M := m_X3_also) (pc := 0) dX3_also_0 0 rfl rfl ?_
  obtain ⟨a2, fs3, x1, e9, h4, h4v, H⟩ := H; cases e9
  refine r_get (M := m_X3_also) (pc := 1) dX3_also_1 "VersionSearch$Reader" 3 7 _ rfl (Nat.le_of_ble_eq_true rfl) q556 (Or.inl rfl) h4 (Nat.le_of_ble_eq_true rfl) h4v ?_
  refine r_ifnull (M := m_X3_also) (pc := 4) dX3_also_4 40 (by decide) (fun hc => ?_) (fun hc => ?_)
  · replace H := f_it H hc
    refine r_aload_n (M := m_X3_also) (pc := 40) dX3_also_40 0 rfl rfl ?_
    refine r_new (M := m_X3_also) (pc := 41) dX3_also_41 5 _ rfl (Nat.le_of_ble_eq_true rfl) q624 q625 q157 [va_rf none, va_rf none, va_rf none, va_rf none, va_rf none, .int 0, .int 0, .int 0] rfl 8 rfl ?_
    refine r_dup (M := m_X3_also) (pc := 44) dX3_also_44 (pw_cat_rf _) ?_
    refine r_iload_n (M := m_X3_also) (pc := 45) dX3_also_45 1 rfl rfl ?_
    refine r_iload_n (M := m_X3_also) (pc := 46) dX3_also_46 2 rfl rfl ?_
    refine r_I (M := m_X3_also) (pc := 47) dX3_also_47 m_X6_init k_X6_init rfl rfl q661 q662 (av := [.int _, .int _]) (dy := d) n_X6_init rfl (pw_c4 (Nat.le_of_ble_eq_true rfl)) (Nat.le_refl _) (H.mono (pw_nx_v (fun w6 H1 => ?_)))
    replace H := H1; clear H1
    obtain ⟨a7, fs8, e9, h9, h9b, H⟩ := H; cases e9
    refine r_put (M := m_X3_also) (pc := 50) dX3_also_50 "VersionSearch$Reader" 3 7 _ rfl (Nat.le_of_ble_eq_true rfl) q556 (Or.inl rfl) rfl h9 (Nat.le_of_ble_eq_true rfl) h9b (nar_ro _ _) (fit_ro _ _) ?_
    exact r_return (M := m_X3_also) (pc := 53) dX3_also_53 rfl H
  · replace H := f_if H hc
    refine r_iload_n (M := m_X3_also) (pc := 7) dX3_also_7 2 rfl rfl ?_
    refine r_aload_n (M := m_X3_also) (pc := 8) dX3_also_8 0 rfl rfl ?_
    obtain ⟨a12, fs13, x11, e9, h14, h14v, H⟩ := H; cases e9
    refine r_get (M := m_X3_also) (pc := 9) dX3_also_9 "VersionSearch$Reader" 3 7 _ rfl (Nat.le_of_ble_eq_true rfl) q556 (Or.inl rfl) h14 (Nat.le_of_ble_eq_true rfl) h14v ?_
    obtain ⟨a16, fs17, x15, e9, h18, h18v, H⟩ := H; cases e9
    refine r_getN (M := m_X3_also) (pc := 12) dX3_also_12 "VersionSearch" 5 7 _ rfl (Nat.le_of_ble_eq_true rfl) q672 h18 (Nat.le_of_ble_eq_true rfl) h18v ?_
    refine r_icmp_lt (M := m_X3_also) (pc := 15) dX3_also_15 40 (by decide) (fun hc => ?_) (fun hc => ?_)
    · replace H := f_it H hc
      refine r_aload_n (M := m_X3_also) (pc := 40) dX3_also_40 0 rfl rfl ?_
      refine r_new (M := m_X3_also) (pc := 41) dX3_also_41 5 _ rfl (Nat.le_of_ble_eq_true rfl) q624 q625 q157 [va_rf none, va_rf none, va_rf none, va_rf none, va_rf none, .int 0, .int 0, .int 0] rfl 8 rfl ?_
      refine r_dup (M := m_X3_also) (pc := 44) dX3_also_44 (pw_cat_rf _) ?_
      refine r_iload_n (M := m_X3_also) (pc := 45) dX3_also_45 1 rfl rfl ?_
      refine r_iload_n (M := m_X3_also) (pc := 46) dX3_also_46 2 rfl rfl ?_
      refine r_I (M := m_X3_also) (pc := 47) dX3_also_47 m_X6_init k_X6_init rfl rfl q661 q662 (av := [.int _, .int _]) (dy := d) n_X6_init rfl (pw_c4 (Nat.le_of_ble_eq_true rfl)) (Nat.le_refl _) (H.mono (pw_nx_v (fun w20 H1 => ?_)))
      replace H := H1; clear H1
      obtain ⟨a21, fs22, e9, h23, h23b, H⟩ := H; cases e9
      refine r_put (M := m_X3_also) (pc := 50) dX3_also_50 "VersionSearch$Reader" 3 7 _ rfl (Nat.le_of_ble_eq_true rfl) q556 (Or.inl rfl) rfl h23 (Nat.le_of_ble_eq_true rfl) h23b (nar_ro _ _) (fit_ro _ _) ?_
      exact r_return (M := m_X3_also) (pc := 53) dX3_also_53 rfl H
    · replace H := f_if H hc
      refine r_iload_n (M := m_X3_also) (pc := 18) dX3_also_18 2 rfl rfl ?_
      refine r_aload_n (M := m_X3_also) (pc := 19) dX3_also_19 0 rfl rfl ?_
      obtain ⟨a26, fs27, x25, e9, h28, h28v, H⟩ := H; cases e9
      refine r_get (M := m_X3_also) (pc := 20) dX3_also_20 "VersionSearch$Reader" 3 7 _ rfl (Nat.le_of_ble_eq_true rfl) q556 (Or.inl rfl) h28 (Nat.le_of_ble_eq_true rfl) h28v ?_
      obtain ⟨a30, fs31, x29, e9, h32, h32v, H⟩ := H; cases e9
      refine r_getN (M := m_X3_also) (pc := 23) dX3_also_23 "VersionSearch" 5 7 _ rfl (Nat.le_of_ble_eq_true rfl) q672 h32 (Nat.le_of_ble_eq_true rfl) h32v ?_
      refine r_icmp_ne (M := m_X3_also) (pc := 26) dX3_also_26 53 (by decide) (fun hc => ?_) (fun hc => ?_)
      · replace H := f_if H hc
        exact r_return (M := m_X3_also) (pc := 53) dX3_also_53 rfl H
      · replace H := f_it H hc
        refine r_iload_n (M := m_X3_also) (pc := 29) dX3_also_29 1 rfl rfl ?_
        refine r_aload_n (M := m_X3_also) (pc := 30) dX3_also_30 0 rfl rfl ?_
        obtain ⟨a34, fs35, x33, e9, h36, h36v, H⟩ := H; cases e9
        refine r_get (M := m_X3_also) (pc := 31) dX3_also_31 "VersionSearch$Reader" 3 7 _ rfl (Nat.le_of_ble_eq_true rfl) q556 (Or.inl rfl) h36 (Nat.le_of_ble_eq_true rfl) h36v ?_
        obtain ⟨a38, fs39, x37, e9, h40, h40v, H⟩ := H; cases e9
        refine r_getN (M := m_X3_also) (pc := 34) dX3_also_34 "VersionSearch" 5 6 _ rfl (Nat.le_of_ble_eq_true rfl) q669 h40 (Nat.le_of_ble_eq_true rfl) h40v ?_
        refine r_icmp_ge (M := m_X3_also) (pc := 37) dX3_also_37 53 (by decide) (fun hc => ?_) (fun hc => ?_)
        · replace H := f_it H hc
          exact r_return (M := m_X3_also) (pc := 53) dX3_also_53 rfl H
        · replace H := f_if H hc
          refine r_aload_n (M := m_X3_also) (pc := 40) dX3_also_40 0 rfl rfl ?_
          refine r_new (M := m_X3_also) (pc := 41) dX3_also_41 5 _ rfl (Nat.le_of_ble_eq_true rfl) q624 q625 q157 [va_rf none, va_rf none, va_rf none, va_rf none, va_rf none, .int 0, .int 0, .int 0] rfl 8 rfl ?_
          refine r_dup (M := m_X3_also) (pc := 44) dX3_also_44 (pw_cat_rf _) ?_
          refine r_iload_n (M := m_X3_also) (pc := 45) dX3_also_45 1 rfl rfl ?_
          refine r_iload_n (M := m_X3_also) (pc := 46) dX3_also_46 2 rfl rfl ?_
          refine r_I (M := m_X3_also) (pc := 47) dX3_also_47 m_X6_init k_X6_init rfl rfl q661 q662 (av := [.int _, .int _]) (dy := d) n_X6_init rfl (pw_c4 (Nat.le_of_ble_eq_true rfl)) (Nat.le_refl _) (H.mono (pw_nx_v (fun w42 H1 => ?_)))
          replace H := H1; clear H1
          obtain ⟨a43, fs44, e9, h45, h45b, H⟩ := H; cases e9
          refine r_put (M := m_X3_also) (pc := 50) dX3_also_50 "VersionSearch$Reader" 3 7 _ rfl (Nat.le_of_ble_eq_true rfl) q556 (Or.inl rfl) rfl h45 (Nat.le_of_ble_eq_true rfl) h45b (nar_ro _ _) (fit_ro _ _) ?_
          exact r_return (M := m_X3_also) (pc := 53) dX3_also_53 rfl H
theorem s_X3_also_k8_0 {E : pw_E} {d : Nat} {w : pw_W} {Post : pw_R → pw_W → Prop} (v0 : Option Nat) (v1 : Int32) (v2 : Int32) (H : f_getr w v0 8 7 (fun x1 => (if x1 = none then (fun w5 => pw_Cl E m_X6_init d (va_rf (some w.2.1) :: [.int v1, .int v2]) w5 (c_v (fun w6 => f_put E w6 v0 8 7 (va_rf (some w.2.1)) (fun w10 => Post (.inl none) w10)))) (pw_new w (5, [va_rf none, va_rf none, va_rf none, va_rf none, va_rf none, .int 0, .int 0, .int 0]) 8) else f_getr w v0 8 7 (fun x11 => f_geti w x11 5 7 (fun x15 => (if v2 < x15 then (fun w19 => pw_Cl E m_X6_init d (va_rf (some w.2.1) :: [.int v1, .int v2]) w19 (c_v (fun w20 => f_put E w20 v0 8 7 (va_rf (some w.2.1)) (fun w24 => Post (.inl none) w24)))) (pw_new w (5, [va_rf none, va_rf none, va_rf none, va_rf none, va_rf none, .int 0, .int 0, .int 0]) 8) else f_getr w v0 8 7 (fun x25 => f_geti w x25 5 7 (fun x29 => (if v2 = x29 then f_getr w v0 8 7 (fun x33 => f_geti w x33 5 6 (fun x37 => (if x37 ≤ v1 then Post (.inl none) w else (fun w41 => pw_Cl E m_X6_init d (va_rf (some w.2.1) :: [.int v1, .int v2]) w41 (c_v (fun w42 => f_put E w42 v0 8 7 (va_rf (some w.2.1)) (fun w46 => Post (.inl none) w46)))) (pw_new w (5, [va_rf none, va_rf none, va_rf none, va_rf none, va_rf none, .int 0, .int 0, .int 0]) 8)))) else Post (.inl none) w))))))))) : pw_Wp E m_X3_also (d + 1) 0 [some (va_rf v0), some (.int v1), some (.int v2)] [] w Post := by
  refine r_aload_n (M := m_X3_also) (pc := 0) dX3_also_0 0 rfl rfl ?_
  obtain ⟨a2, fs3, x1, e9, h4, h4v, H⟩ := H; cases e9
  refine r_get (M := m_X3_also) (pc := 1) dX3_also_1 "VersionSearch$Reader" 8 7 _ rfl (Nat.le_of_ble_eq_true rfl) q556 (Or.inl rfl) h4 (Nat.le_of_ble_eq_true rfl) h4v ?_
  refine r_ifnull (M := m_X3_also) (pc := 4) dX3_also_4 40 (by decide) (fun hc => ?_) (fun hc => ?_)
  · replace H := f_it H hc
    refine r_aload_n (M := m_X3_also) (pc := 40) dX3_also_40 0 rfl rfl ?_
    refine r_new (M := m_X3_also) (pc := 41) dX3_also_41 5 _ rfl (Nat.le_of_ble_eq_true rfl) q624 q625 q157 [va_rf none, va_rf none, va_rf none, va_rf none, va_rf none, .int 0, .int 0, .int 0] rfl 8 rfl ?_
    refine r_dup (M := m_X3_also) (pc := 44) dX3_also_44 (pw_cat_rf _) ?_
    refine r_iload_n (M := m_X3_also) (pc := 45) dX3_also_45 1 rfl rfl ?_
    refine r_iload_n (M := m_X3_also) (pc := 46) dX3_also_46 2 rfl rfl ?_
    refine r_I (M := m_X3_also) (pc := 47) dX3_also_47 m_X6_init k_X6_init rfl rfl q661 q662 (av := [.int _, .int _]) (dy := d) n_X6_init rfl (pw_c4 (Nat.le_of_ble_eq_true rfl)) (Nat.le_refl _) (H.mono (pw_nx_v (fun w6 H1 => ?_)))
    replace H := H1; clear H1
    obtain ⟨a7, fs8, e9, h9, h9b, H⟩ := H; cases e9
    refine r_put (M := m_X3_also) (pc := 50) dX3_also_50 "VersionSearch$Reader" 8 7 _ rfl (Nat.le_of_ble_eq_true rfl) q556 (Or.inl rfl) rfl h9 (Nat.le_of_ble_eq_true rfl) h9b (nar_ro _ _) (fit_ro _ _) ?_
    exact r_return (M := m_X3_also) (pc := 53) dX3_also_53 rfl H
  · replace H := f_if H hc
    refine r_iload_n (M := m_X3_also) (pc := 7) dX3_also_7 2 rfl rfl ?_
    refine r_aload_n (M := m_X3_also) (pc := 8) dX3_also_8 0 rfl rfl ?_
    obtain ⟨a12, fs13, x11, e9, h14, h14v, H⟩ := H; cases e9
    refine r_get (M := m_X3_also) (pc := 9) dX3_also_9 "VersionSearch$Reader" 8 7 _ rfl (Nat.le_of_ble_eq_true rfl) q556 (Or.inl rfl) h14 (Nat.le_of_ble_eq_true rfl) h14v ?_
    obtain ⟨a16, fs17, x15, e9, h18, h18v, H⟩ := H; cases e9
    refine r_getN (M := m_X3_also) (pc := 12) dX3_also_12 "VersionSearch" 5 7 _ rfl (Nat.le_of_ble_eq_true rfl) q672 h18 (Nat.le_of_ble_eq_true rfl) h18v ?_
    refine r_icmp_lt (M := m_X3_also) (pc := 15) dX3_also_15 40 (by decide) (fun hc => ?_) (fun hc => ?_)
    · replace H := f_it H hc
      refine r_aload_n (M := m_X3_also) (pc := 40) dX3_also_40 0 rfl rfl ?_
      refine r_new (M := m_X3_also) (pc := 41) dX3_also_41 5 _ rfl (Nat.le_of_ble_eq_true rfl) q624 q625 q157 [va_rf none, va_rf none, va_rf none, va_rf none, va_rf none, .int 0, .int 0, .int 0] rfl 8 rfl ?_
      refine r_dup (M := m_X3_also) (pc := 44) dX3_also_44 (pw_cat_rf _) ?_
      refine r_iload_n (M := m_X3_also) (pc := 45) dX3_also_45 1 rfl rfl ?_
      refine r_iload_n (M := m_X3_also) (pc := 46) dX3_also_46 2 rfl rfl ?_
      refine r_I (M := m_X3_also) (pc := 47) dX3_also_47 m_X6_init k_X6_init rfl rfl q661 q662 (av := [.int _, .int _]) (dy := d) n_X6_init rfl (pw_c4 (Nat.le_of_ble_eq_true rfl)) (Nat.le_refl _) (H.mono (pw_nx_v (fun w20 H1 => ?_)))
      replace H := H1; clear H1
      obtain ⟨a21, fs22, e9, h23, h23b, H⟩ := H; cases e9
      refine r_put (M := m_X3_also) (pc := 50) dX3_also_50 "VersionSearch$Reader" 8 7 _ rfl (Nat.le_of_ble_eq_true rfl) q556 (Or.inl rfl) rfl h23 (Nat.le_of_ble_eq_true rfl) h23b (nar_ro _ _) (fit_ro _ _) ?_
      exact r_return (M := m_X3_also) (pc := 53) dX3_also_53 rfl H
    · replace H := f_if H hc
      refine r_iload_n (M := m_X3_also) (pc := 18) dX3_also_18 2 rfl rfl ?_
      refine r_aload_n (M := m_X3_also) (pc := 19) dX3_also_19 0 rfl rfl ?_
      obtain ⟨a26, fs27, x25, e9, h28, h28v, H⟩ := H; cases e9
      refine r_get (M := m_X3_also) (pc := 20) dX3_also_20 "VersionSearch$Reader" 8 7 _ rfl (Nat.le_of_ble_eq_true rfl) q556 (Or.inl rfl) h28 (Nat.le_of_ble_eq_true rfl) h28v ?_
      obtain ⟨a30, fs31, x29, e9, h32, h32v, H⟩ := H; cases e9
      refine r_getN (M := m_X3_also) (pc := 23) dX3_also_23 "VersionSearch" 5 7 _ rfl (Nat.le_of_ble_eq_true rfl) q672 h32 (Nat.le_of_ble_eq_true rfl) h32v ?_
      refine r_icmp_ne (M := m_X3_also) (pc := 26) dX3_also_26 53 (by decide) (fun hc => ?_) (fun hc => ?_)
      · replace H := f_if H hc
        exact r_return (M := m_X3_also) (pc := 53) dX3_also_53 rfl H
      · replace H := f_it H hc
        refine r_iload_n (M := m_X3_also) (pc := 29) dX3_also_29 1 rfl rfl ?_
        refine r_aload_n (M := m_X3_also) (pc := 30) dX3_also_30 0 rfl rfl ?_
        obtain ⟨a34, fs35, x33, e9, h36, h36v, H⟩ := H; cases e9
        refine r_get (M := m_X3_also) (pc := 31) dX3_also_31 "VersionSearch$Reader" 8 7 _ rfl (Nat.le_of_ble_eq_true rfl) q556 (Or.inl rfl) h36 (Nat.le_of_ble_eq_true rfl) h36v ?_
        obtain ⟨a38, fs39, x37, e9, h40, h40v, H⟩ := H; cases e9
        refine r_getN (M := m_X3_also) (pc := 34) dX3_also_34 "VersionSearch" 5 6 _ rfl (Nat.le_of_ble_eq_true rfl) q669 h40 (Nat.le_of_ble_eq_true rfl) h40v ?_
        refine r_icmp_ge (M := m_X3_also) (pc := 37) dX3_also_37 53 (by decide) (fun hc => ?_) (fun hc => ?_)
        · replace H := f_it H hc
          exact r_return (M := m_X3_also) (pc := 53) dX3_also_53 rfl H
        · replace H := f_if H hc
          refine r_aload_n (M := m_X3_also) (pc := 40) dX3_also_40 0 rfl rfl ?_
          refine r_new (M := m_X3_also) (pc := 41) dX3_also_41 5 _ rfl (Nat.le_of_ble_eq_true rfl) q624 q625 q157 [va_rf none, va_rf none, va_rf none, va_rf none, va_rf none, .int 0, .int 0, .int 0] rfl 8 rfl ?_
          refine r_dup (M := m_X3_also) (pc := 44) dX3_also_44 (pw_cat_rf _) ?_
          refine r_iload_n (M := m_X3_also) (pc := 45) dX3_also_45 1 rfl rfl ?_
          refine r_iload_n (M := m_X3_also) (pc := 46) dX3_also_46 2 rfl rfl ?_
          refine r_I (M := m_X3_also) (pc := 47) dX3_also_47 m_X6_init k_X6_init rfl rfl q661 q662 (av := [.int _, .int _]) (dy := d) n_X6_init rfl (pw_c4 (Nat.le_of_ble_eq_true rfl)) (Nat.le_refl _) (H.mono (pw_nx_v (fun w42 H1 => ?_)))
          replace H := H1; clear H1
          obtain ⟨a43, fs44, e9, h45, h45b, H⟩ := H; cases e9
          refine r_put (M := m_X3_also) (pc := 50) dX3_also_50 "VersionSearch$Reader" 8 7 _ rfl (Nat.le_of_ble_eq_true rfl) q556 (Or.inl rfl) rfl h45 (Nat.le_of_ble_eq_true rfl) h45b (nar_ro _ _) (fit_ro _ _) ?_
          exact r_return (M := m_X3_also) (pc := 53) dX3_also_53 rfl H
theorem s_X3_also_k9_0 {E : pw_E} {d : Nat} {w : pw_W} {Post : pw_R → pw_W → Prop} (v0 : Option Nat) (v1 : Int32) (v2 : Int32) (H : f_getr w v0 9 7 (fun x1 => (if x1 = none then (fun w5 => pw_Cl E m_X6_init d (va_rf (some w.2.1) :: [.int v1, .int v2]) w5 (c_v (fun w6 => f_put E w6 v0 9 7 (va_rf (some w.2.1)) (fun w10 => Post (.inl none) w10)))) (pw_new w (5, [va_rf none, va_rf none, va_rf none, va_rf none, va_rf none, .int 0, .int 0, .int 0]) 8) else f_getr w v0 9 7 (fun x11 => f_geti w x11 5 7 (fun x15 => (if v2 < x15 then (fun w19 => pw_Cl E m_X6_init d (va_rf (some w.2.1) :: [.int v1, .int v2]) w19 (c_v (fun w20 => f_put E w20 v0 9 7 (va_rf (some w.2.1)) (fun w24 => Post (.inl none) w24)))) (pw_new w (5, [va_rf none, va_rf none, va_rf none, va_rf none, va_rf none, .int 0, .int 0, .int 0]) 8) else f_getr w v0 9 7 (fun x25 => f_geti w x25 5 7 (fun x29 => (if v2 = x29 then f_getr w v0 9 7 (fun x33 => f_geti w x33 5 6 (fun x37 => (if x37 ≤ v1 then Post (.inl none) w else (fun w41 => pw_Cl E m_X6_init d (va_rf (some w.2.1) :: [.int v1, .int v2]) w41 (c_v (fun w42 => f_put E w42 v0 9 7 (va_rf (some w.2.1)) (fun w46 => Post (.inl none) w46)))) (pw_new w (5, [va_rf none, va_rf none, va_rf none, va_rf none, va_rf none, .int 0, .int 0, .int 0]) 8)))) else Post (.inl none) w))))))))) : pw_Wp E m_X3_also (d + 1) 0 [some (va_rf v0), some (.int v1), some (.int v2)] [] w Post := by
  refine r_aload_n (M := m_X3_also) (pc := 0) dX3_also_0 0 rfl rfl ?_
  obtain ⟨a2, fs3, x1, e9, h4, h4v, H⟩ := H; cases e9
  refine r_get (M := m_X3_also) (pc := 1) dX3_also_1 "VersionSearch$Reader" 9 7 _ rfl (Nat.le_of_ble_eq_true rfl) q556 (Or.inl rfl) h4 (Nat.le_of_ble_eq_true rfl) h4v ?_
  refine r_ifnull (M := m_X3_also) (pc := 4) dX3_also_4 40 (by decide) (fun hc => ?_) (fun hc => ?_)
  · replace H := f_it H hc
    refine r_aload_n (M := m_X3_also) (pc := 40) dX3_also_40 0 rfl rfl ?_
    refine r_new (M := m_X3_also) (pc := 41) dX3_also_41 5 _ rfl (Nat.le_of_ble_eq_true rfl) q624 q625 q157 [va_rf none, va_rf none, va_rf none, va_rf none, va_rf none, .int 0, .int 0, .int 0] rfl 8 rfl ?_
    refine r_dup (M := m_X3_also) (pc := 44) dX3_also_44 (pw_cat_rf _) ?_
    refine r_iload_n (M := m_X3_also) (pc := 45) dX3_also_45 1 rfl rfl ?_
    refine r_iload_n (M := m_X3_also) (pc := 46) dX3_also_46 2 rfl rfl ?_
    refine r_I (M := m_X3_also) (pc := 47) dX3_also_47 m_X6_init k_X6_init rfl rfl q661 q662 (av := [.int _, .int _]) (dy := d) n_X6_init rfl (pw_c4 (Nat.le_of_ble_eq_true rfl)) (Nat.le_refl _) (H.mono (pw_nx_v (fun w6 H1 => ?_)))
    replace H := H1; clear H1
    obtain ⟨a7, fs8, e9, h9, h9b, H⟩ := H; cases e9
    refine r_put (M := m_X3_also) (pc := 50) dX3_also_50 "VersionSearch$Reader" 9 7 _ rfl (Nat.le_of_ble_eq_true rfl) q556 (Or.inl rfl) rfl h9 (Nat.le_of_ble_eq_true rfl) h9b (nar_ro _ _) (fit_ro _ _) ?_
    exact r_return (M := m_X3_also) (pc := 53) dX3_also_53 rfl H
  · replace H := f_if H hc
    refine r_iload_n (M := m_X3_also) (pc := 7) dX3_also_7 2 rfl rfl ?_
    refine r_aload_n (M := m_X3_also) (pc := 8) dX3_also_8 0 rfl rfl ?_
    obtain ⟨a12, fs13, x11, e9, h14, h14v, H⟩ := H; cases e9
    refine r_get (M := m_X3_also) (pc := 9) dX3_also_9 "VersionSearch$Reader" 9 7 _ rfl (Nat.le_of_ble_eq_true rfl) q556 (Or.inl rfl) h14 (Nat.le_of_ble_eq_true rfl) h14v ?_
    obtain ⟨a16, fs17, x15, e9, h18, h18v, H⟩ := H; cases e9
    refine r_getN (M := m_X3_also) (pc := 12) dX3_also_12 "VersionSearch" 5 7 _ rfl (Nat.le_of_ble_eq_true rfl) q672 h18 (Nat.le_of_ble_eq_true rfl) h18v ?_
    refine r_icmp_lt (M := m_X3_also) (pc := 15) dX3_also_15 40 (by decide) (fun hc => ?_) (fun hc => ?_)
    · replace H := f_it H hc
      refine r_aload_n (M := m_X3_also) (pc := 40) dX3_also_40 0 rfl rfl ?_
      refine r_new (M := m_X3_also) (pc := 41) dX3_also_41 5 _ rfl (Nat.le_of_ble_eq_true rfl) q624 q625 q157 [va_rf none, va_rf none, va_rf none, va_rf none, va_rf none, .int 0, .int 0, .int 0] rfl 8 rfl ?_
      refine r_dup (M := m_X3_also) (pc := 44) dX3_also_44 (pw_cat_rf _) ?_
      refine r_iload_n (M := m_X3_also) (pc := 45) dX3_also_45 1 rfl rfl ?_
      refine r_iload_n (M := m_X3_also) (pc := 46) dX3_also_46 2 rfl rfl ?_
      refine r_I (M := m_X3_also) (pc := 47) dX3_also_47 m_X6_init k_X6_init rfl rfl q661 q662 (av := [.int _, .int _]) (dy := d) n_X6_init rfl (pw_c4 (Nat.le_of_ble_eq_true rfl)) (Nat.le_refl _) (H.mono (pw_nx_v (fun w20 H1 => ?_)))
      replace H := H1; clear H1
      obtain ⟨a21, fs22, e9, h23, h23b, H⟩ := H; cases e9
      refine r_put (M := m_X3_also) (pc := 50) dX3_also_50 "VersionSearch$Reader" 9 7 _ rfl (Nat.le_of_ble_eq_true rfl) q556 (Or.inl rfl) rfl h23 (Nat.le_of_ble_eq_true rfl) h23b (nar_ro _ _) (fit_ro _ _) ?_
      exact r_return (M := m_X3_also) (pc := 53) dX3_also_53 rfl H
    · replace H := f_if H hc
      refine r_iload_n (M := m_X3_also) (pc := 18) dX3_also_18 2 rfl rfl ?_
      refine r_aload_n (M := m_X3_also) (pc := 19) dX3_also_19 0 rfl rfl ?_
      obtain ⟨a26, fs27, x25, e9, h28, h28v, H⟩ := H; cases e9
      refine r_get (M := m_X3_also) (pc := 20) dX3_also_20 "VersionSearch$Reader" 9 7 _ rfl (Nat.le_of_ble_eq_true rfl) q556 (Or.inl rfl) h28 (Nat.le_of_ble_eq_true rfl) h28v ?_
      obtain ⟨a30, fs31, x29, e9, h32, h32v, H⟩ := H; cases e9
      refine r_getN (M := m_X3_also) (pc := 23) dX3_also_23 "VersionSearch" 5 7 _ rfl (Nat.le_of_ble_eq_true rfl) q672 h32 (Nat.le_of_ble_eq_true rfl) h32v ?_
      refine r_icmp_ne (M := m_X3_also) (pc := 26) dX3_also_26 53 (by decide) (fun hc => ?_) (fun hc => ?_)
      · replace H := f_if H hc
        exact r_return (M := m_X3_also) (pc := 53) dX3_also_53 rfl H
      · replace H := f_it H hc
        refine r_iload_n (M := m_X3_also) (pc := 29) dX3_also_29 1 rfl rfl ?_
        refine r_aload_n (M := m_X3_also) (pc := 30) dX3_also_30 0 rfl rfl ?_
        obtain ⟨a34, fs35, x33, e9, h36, h36v, H⟩ := H; cases e9
        refine r_get (M := m_X3_also) (pc := 31) dX3_also_31 "VersionSearch$Reader" 9 7 _ rfl (Nat.le_of_ble_eq_true rfl) q556 (Or.inl rfl) h36 (Nat.le_of_ble_eq_true rfl) h36v ?_
        obtain ⟨a38, fs39, x37, e9, h40, h40v, H⟩ := H; cases e9
        refine r_getN (M := m_X3_also) (pc := 34) dX3_also_34 "VersionSearch" 5 6 _ rfl (Nat.le_of_ble_eq_true rfl) q669 h40 (Nat.le_of_ble_eq_true rfl) h40v ?_
        refine r_icmp_ge (M := m_X3_also) (pc := 37) dX3_also_37 53 (by decide) (fun hc => ?_) (fun hc => ?_)
        · replace H := f_it H hc
          exact r_return (M := m_X3_also) (pc := 53) dX3_also_53 rfl H
        · replace H := f_if H hc
          refine r_aload_n (M := m_X3_also) (pc := 40) dX3_also_40 0 rfl rfl ?_
          refine r_new (M := m_X3_also) (pc := 41) dX3_also_41 5 _ rfl (Nat.le_of_ble_eq_true rfl) q624 q625 q157 [va_rf none, va_rf none, va_rf none, va_rf none, va_rf none, .int 0, .int 0, .int 0] rfl 8 rfl ?_
          refine r_dup (M := m_X3_also) (pc := 44) dX3_also_44 (pw_cat_rf _) ?_
          refine r_iload_n (M := m_X3_also) (pc := 45) dX3_also_45 1 rfl rfl ?_
          refine r_iload_n (M := m_X3_also) (pc := 46) dX3_also_46 2 rfl rfl ?_
          refine r_I (M := m_X3_also) (pc := 47) dX3_also_47 m_X6_init k_X6_init rfl rfl q661 q662 (av := [.int _, .int _]) (dy := d) n_X6_init rfl (pw_c4 (Nat.le_of_ble_eq_true rfl)) (Nat.le_refl _) (H.mono (pw_nx_v (fun w42 H1 => ?_)))
          replace H := H1; clear H1
          obtain ⟨a43, fs44, e9, h45, h45b, H⟩ := H; cases e9
          refine r_put (M := m_X3_also) (pc := 50) dX3_also_50 "VersionSearch$Reader" 9 7 _ rfl (Nat.le_of_ble_eq_true rfl) q556 (Or.inl rfl) rfl h45 (Nat.le_of_ble_eq_true rfl) h45b (nar_ro _ _) (fit_ro _ _) ?_
          exact r_return (M := m_X3_also) (pc := 53) dX3_also_53 rfl H
theorem s_X3_also_K_0 {E : pw_E} {d : Nat} {w : pw_W} {Post : pw_R → pw_W → Prop} {k : Nat} (hk : k = 3 ∨ k = 8 ∨ k = 9) (v0 : Option Nat) (v1 : Int32) (v2 : Int32) (H : f_getr w v0 k 7 (fun x1 => (if x1 = none then (fun w5 => pw_Cl E m_X6_init d (va_rf (some w.2.1) :: [.int v1, .int v2]) w5 (c_v (fun w6 => f_put E w6 v0 k 7 (va_rf (some w.2.1)) (fun w10 => Post (.inl none) w10)))) (pw_new w (5, [va_rf none, va_rf none, va_rf none, va_rf none, va_rf none, .int 0, .int 0, .int 0]) 8) else f_getr w v0 k 7 (fun x11 => f_geti w x11 5 7 (fun x15 => (if v2 < x15 then (fun w19 => pw_Cl E m_X6_init d (va_rf (some w.2.1) :: [.int v1, .int v2]) w19 (c_v (fun w20 => f_put E w20 v0 k 7 (va_rf (some w.2.1)) (fun w24 => Post (.inl none) w24)))) (pw_new w (5, [va_rf none, va_rf none, va_rf none, va_rf none, va_rf none, .int 0, .int 0, .int 0]) 8) else f_getr w v0 k 7 (fun x25 => f_geti w x25 5 7 (fun x29 => (if v2 = x29 then f_getr w v0 k 7 (fun x33 => f_geti w x33 5 6 (fun x37 => (if x37 ≤ v1 then Post (.inl none) w else (fun w41 => pw_Cl E m_X6_init d (va_rf (some w.2.1) :: [.int v1, .int v2]) w41 (c_v (fun w42 => f_put E w42 v0 k 7 (va_rf (some w.2.1)) (fun w46 => Post (.inl none) w46)))) (pw_new w (5, [va_rf none, va_rf none, va_rf none, va_rf none, va_rf none, .int 0, .int 0, .int 0]) 8)))) else Post (.inl none) w))))))))) : pw_Wp E m_X3_also (d + 1) 0 [some (va_rf v0), some (.int v1), some (.int v2)] [] w Post := by
  rcases hk with rfl | rfl | rfl
  · exact s_X3_also_k3_0 v0 v1 v2 H
  · exact s_X3_also_k8_0 v0 v1 v2 H
  · exact s_X3_also_k9_0 v0 v1 v2 H
theorem s_X3_at_k3_0 {E : pw_E} {d : Nat} {w : pw_W} {Post : pw_R → pw_W → Prop} (v0 : Option Nat) (v1 : Int32) (H : f_geti w v0 3 1 (fun x1 => (if x1 ≤ v1 then Post (.inl (some (.int (-1)))) w else f_getr w v0 3 0 (fun x5 => f_aldb w x5 v1 (fun x9 => Post (.inl (some (.int (x9 &&& 255)))) w))))) : pw_Wp E m_X3_at (d + 1) 0 [some (va_rf v0), some (.int v1)] [] w Post := by
  refine r_iload_n (M := m_X3_at) (pc := 0) dX3_at_0 1 rfl rfl ?_
  refine r_aload_n (M := m_X3_at) (pc := 1) dX3_at_1 0 rfl rfl ?_
  obtain ⟨a2, fs3, x1, e9, h4, h4v, H⟩ := H; cases e9
  refine r_get (M := m_X3_at) (pc := 2) dX3_at_2 "VersionSearch$Reader" 3 1 _ rfl (Nat.le_of_ble_eq_true rfl) q550 (Or.inl rfl) h4 (Nat.le_of_ble_eq_true rfl) h4v ?_
  refine r_icmp_ge (M := m_X3_at) (pc := 5) dX3_at_5 21 (by decide) (fun hc => ?_) (fun hc => ?_)
  · replace H := f_it H hc
    refine r_iconst (M := m_X3_at) (pc := 21) dX3_at_21 (-1) rfl ?_
    exact r_ireturn (M := m_X3_at) (pc := 22) dX3_at_22 rfl H
  · replace H := f_if H hc
    refine r_aload_n (M := m_X3_at) (pc := 8) dX3_at_8 0 rfl rfl ?_
    obtain ⟨a6, fs7, x5, e9, h8, h8v, H⟩ := H; cases e9
    refine r_get (M := m_X3_at) (pc := 9) dX3_at_9 "VersionSearch$Reader" 3 0 _ rfl (Nat.le_of_ble_eq_true rfl) q549 (Or.inl rfl) h8 (Nat.le_of_ble_eq_true rfl) h8v ?_
    refine r_iload_n (M := m_X3_at) (pc := 12) dX3_at_12 1 rfl rfl ?_
    obtain ⟨a10, vs12, x9, e9, h13, h130, h13v, H⟩ := H; cases e9
    refine r_baload (M := m_X3_at) (pc := 13) dX3_at_13 h13 h130 h13v ?_
    refine r_sipush (M := m_X3_at) (pc := 14) dX3_at_14 255 rfl ?_
    refine r_iand (M := m_X3_at) (pc := 17) dX3_at_17 ?_
    refine r_goto (M := m_X3_at) (pc := 18) dX3_at_18 22 (by decide) ?_
    exact r_ireturn (M := m_X3_at) (pc := 22) dX3_at_22 rfl H
theorem s_X3_at_k8_0 {E : pw_E} {d : Nat} {w : pw_W} {Post : pw_R → pw_W → Prop} (v0 : Option Nat) (v1 : Int32) (H : f_geti w v0 8 1 (fun x1 => (if x1 ≤ v1 then Post (.inl (some (.int (-1)))) w else f_getr w v0 8 0 (fun x5 => f_aldb w x5 v1 (fun x9 => Post (.inl (some (.int (x9 &&& 255)))) w))))) : pw_Wp E m_X3_at (d + 1) 0 [some (va_rf v0), some (.int v1)] [] w Post := by
  refine r_iload_n (M := m_X3_at) (pc := 0) dX3_at_0 1 rfl rfl ?_
  refine r_aload_n (M := m_X3_at) (pc := 1) dX3_at_1 0 rfl rfl ?_
  obtain ⟨a2, fs3, x1, e9, h4, h4v, H⟩ := H; cases e9
  refine r_get (M := m_X3_at) (pc := 2) dX3_at_2 "VersionSearch$Reader" 8 1 _ rfl (Nat.le_of_ble_eq_true rfl) q550 (Or.inl rfl) h4 (Nat.le_of_ble_eq_true rfl) h4v ?_
  refine r_icmp_ge (M := m_X3_at) (pc := 5) dX3_at_5 21 (by decide) (fun hc => ?_) (fun hc => ?_)
  · replace H := f_it H hc
    refine r_iconst (M := m_X3_at) (pc := 21) dX3_at_21 (-1) rfl ?_
    exact r_ireturn (M := m_X3_at) (pc := 22) dX3_at_22 rfl H
  · replace H := f_if H hc
    refine r_aload_n (M := m_X3_at) (pc := 8) dX3_at_8 0 rfl rfl ?_
    obtain ⟨a6, fs7, x5, e9, h8, h8v, H⟩ := H; cases e9
    refine r_get (M := m_X3_at) (pc := 9) dX3_at_9 "VersionSearch$Reader" 8 0 _ rfl (Nat.le_of_ble_eq_true rfl) q549 (Or.inl rfl) h8 (Nat.le_of_ble_eq_true rfl) h8v ?_
    refine r_iload_n (M := m_X3_at) (pc := 12) dX3_at_12 1 rfl rfl ?_
    obtain ⟨a10, vs12, x9, e9, h13, h130, h13v, H⟩ := H; cases e9
    refine r_baload (M := m_X3_at) (pc := 13) dX3_at_13 h13 h130 h13v ?_
    refine r_sipush (M := m_X3_at) (pc := 14) dX3_at_14 255 rfl ?_
    refine r_iand (M := m_X3_at) (pc := 17) dX3_at_17 ?_
    refine r_goto (M := m_X3_at) (pc := 18) dX3_at_18 22 (by decide) ?_
    exact r_ireturn (M := m_X3_at) (pc := 22) dX3_at_22 rfl H
theorem s_X3_at_k9_0 {E : pw_E} {d : Nat} {w : pw_W} {Post : pw_R → pw_W → Prop} (v0 : Option Nat) (v1 : Int32) (H : f_geti w v0 9 1 (fun x1 => (if x1 ≤ v1 then Post (.inl (some (.int (-1)))) w else f_getr w v0 9 0 (fun x5 => f_aldb w x5 v1 (fun x9 => Post (.inl (some (.int (x9 &&& 255)))) w))))) : pw_Wp E m_X3_at (d + 1) 0 [some (va_rf v0), some (.int v1)] [] w Post := by
  refine r_iload_n (M := m_X3_at) (pc := 0) dX3_at_0 1 rfl rfl ?_
  refine r_aload_n (M := m_X3_at) (pc := 1) dX3_at_1 0 rfl rfl ?_
  obtain ⟨a2, fs3, x1, e9, h4, h4v, H⟩ := H; cases e9
  refine r_get (M := m_X3_at) (pc := 2) dX3_at_2 "VersionSearch$Reader" 9 1 _ rfl (Nat.le_of_ble_eq_true rfl) q550 (Or.inl rfl) h4 (Nat.le_of_ble_eq_true rfl) h4v ?_
  refine r_icmp_ge (M := m_X3_at) (pc := 5) dX3_at_5 21 (by decide) (fun hc => ?_) (fun hc => ?_)
  · replace H := f_it H hc
    refine r_iconst (M := m_X3_at) (pc := 21) dX3_at_21 (-1) rfl ?_
    exact r_ireturn (M := m_X3_at) (pc := 22) dX3_at_22 rfl H
  · replace H := f_if H hc
    refine r_aload_n (M := m_X3_at) (pc := 8) dX3_at_8 0 rfl rfl ?_
    obtain ⟨a6, fs7, x5, e9, h8, h8v, H⟩ := H; cases e9
    refine r_get (M := m_X3_at) (pc := 9) dX3_at_9 "VersionSearch$Reader" 9 0 _ rfl (Nat.le_of_ble_eq_true rfl) q549 (Or.inl rfl) h8 (Nat.le_of_ble_eq_true rfl) h8v ?_
    refine r_iload_n (M := m_X3_at) (pc := 12) dX3_at_12 1 rfl rfl ?_
    obtain ⟨a10, vs12, x9, e9, h13, h130, h13v, H⟩ := H; cases e9
    refine r_baload (M := m_X3_at) (pc := 13) dX3_at_13 h13 h130 h13v ?_
    refine r_sipush (M := m_X3_at) (pc := 14) dX3_at_14 255 rfl ?_
    refine r_iand (M := m_X3_at) (pc := 17) dX3_at_17 ?_
    refine r_goto (M := m_X3_at) (pc := 18) dX3_at_18 22 (by decide) ?_
    exact r_ireturn (M := m_X3_at) (pc := 22) dX3_at_22 rfl H
theorem s_X3_at_K_0 {E : pw_E} {d : Nat} {w : pw_W} {Post : pw_R → pw_W → Prop} {k : Nat} (hk : k = 3 ∨ k = 8 ∨ k = 9) (v0 : Option Nat) (v1 : Int32) (H : f_geti w v0 k 1 (fun x1 => (if x1 ≤ v1 then Post (.inl (some (.int (-1)))) w else f_getr w v0 k 0 (fun x5 => f_aldb w x5 v1 (fun x9 => Post (.inl (some (.int (x9 &&& 255)))) w))))) : pw_Wp E m_X3_at (d + 1) 0 [some (va_rf v0), some (.int v1)] [] w Post := by
  rcases hk with rfl | rfl | rfl
  · exact s_X3_at_k3_0 v0 v1 H
  · exact s_X3_at_k8_0 v0 v1 H
  · exact s_X3_at_k9_0 v0 v1 H
theorem s_X3_here_k3_0 {E : pw_E} {d : Nat} {w : pw_W} {Post : pw_R → pw_W → Prop} (v0 : Option Nat) (H : f_geti w v0 3 3 (fun x1 => Post (.inl (some (.int x1))) w)) : pw_Wp E m_X3_here (d + 1) 0 [some (va_rf v0)] [] w Post := by
  refine r_aload_n (M := m_X3_here) (pc := 0) dX3_here_0 0 rfl rfl ?_
  obtain ⟨a2, fs3, x1, e9, h4, h4v, H⟩ := H; cases e9
  refine r_get (M := m_X3_here) (pc := 1) dX3_here_1 "VersionSearch$Reader" 3 3 _ rfl (Nat.le_of_ble_eq_true rfl) q552 (Or.inl rfl) h4 (Nat.le_of_ble_eq_true rfl) h4v ?_
  exact r_ireturn (M := m_X3_here) (pc := 4) dX3_here_4 rfl H
theorem s_X3_here_k8_0 {E : pw_E} {d : Nat} {w : pw_W} {Post : pw_R → pw_W → Prop} (v0 : Option Nat) (H : f_geti w v0 8 3 (fun x1 => Post (.inl (some (.int x1))) w)) : pw_Wp E m_X3_here (d + 1) 0 [some (va_rf v0)] [] w Post := by
  refine r_aload_n (M := m_X3_here) (pc := 0) dX3_here_0 0 rfl rfl ?_
  obtain ⟨a2, fs3, x1, e9, h4, h4v, H⟩ := H; cases e9
  refine r_get (M := m_X3_here) (pc := 1) dX3_here_1 "VersionSearch$Reader" 8 3 _ rfl (Nat.le_of_ble_eq_true rfl) q552 (Or.inl rfl) h4 (Nat.le_of_ble_eq_true rfl) h4v ?_
  exact r_ireturn (M := m_X3_here) (pc := 4) dX3_here_4 rfl H
theorem s_X3_here_k9_0 {E : pw_E} {d : Nat} {w : pw_W} {Post : pw_R → pw_W → Prop} (v0 : Option Nat) (H : f_geti w v0 9 3 (fun x1 => Post (.inl (some (.int x1))) w)) : pw_Wp E m_X3_here (d + 1) 0 [some (va_rf v0)] [] w Post := by
  refine r_aload_n (M := m_X3_here) (pc := 0) dX3_here_0 0 rfl rfl ?_
  obtain ⟨a2, fs3, x1, e9, h4, h4v, H⟩ := H; cases e9
  refine r_get (M := m_X3_here) (pc := 1) dX3_here_1 "VersionSearch$Reader" 9 3 _ rfl (Nat.le_of_ble_eq_true rfl) q552 (Or.inl rfl) h4 (Nat.le_of_ble_eq_true rfl) h4v ?_
  exact r_ireturn (M := m_X3_here) (pc := 4) dX3_here_4 rfl H
theorem s_X3_here_K_0 {E : pw_E} {d : Nat} {w : pw_W} {Post : pw_R → pw_W → Prop} {k : Nat} (hk : k = 3 ∨ k = 8 ∨ k = 9) (v0 : Option Nat) (H : f_geti w v0 k 3 (fun x1 => Post (.inl (some (.int x1))) w)) : pw_Wp E m_X3_here (d + 1) 0 [some (va_rf v0)] [] w Post := by
  rcases hk with rfl | rfl | rfl
  · exact s_X3_here_k3_0 v0 H
  · exact s_X3_here_k8_0 v0 H
  · exact s_X3_here_k9_0 v0 H
theorem s_X3_init_k3_0 {E : pw_E} {d : Nat} {w : pw_W} {Post : pw_R → pw_W → Prop} (a0 : Nat) (v1 : Option Nat) (v2 : Int32) (H : f_put E w (some a0) 3 0 (va_rf v1) (fun w4 => f_put E w4 (some a0) 3 1 (.int v2) (fun w8 => f_V E w8 (some a0) 3 m_X3_step d [] (c_v (fun w9 => Post (.inl none) w9))))) : pw_Wp E m_X3_init (d + 1) 0 [some (va_rf (some a0)), some (va_rf v1), some (.int v2)] [] w Post := by
  refine r_aload_n (M := m_X3_init) (pc := 0) dX3_init_0 0 rfl rfl ?_
  refine r_objInit (M := m_X3_init) (pc := 1) dX3_init_1 q314 q197 q198 (Nat.succ_pos _) (Nat.le_of_ble_eq_true rfl) ?_
  refine r_aload_n (M := m_X3_init) (pc := 4) dX3_init_4 0 rfl rfl ?_
  refine r_aload_n (M := m_X3_init) (pc := 5) dX3_init_5 1 rfl rfl ?_
  obtain ⟨a1, fs2, e9, h3, h3b, H⟩ := H; cases e9
  refine r_putF (M := m_X3_init) (pc := 6) dX3_init_6 "VersionSearch$Reader" 3 0 _ rfl (Nat.le_of_ble_eq_true rfl) q549 (Or.inl rfl) rfl rfl rfl h3 (Nat.le_of_ble_eq_true rfl) h3b (nar_ra _ _) (fit_ra _ _) ?_
  refine r_aload_n (M := m_X3_init) (pc := 9) dX3_init_9 0 rfl rfl ?_
  refine r_iload_n (M := m_X3_init) (pc := 10) dX3_init_10 2 rfl rfl ?_
  obtain ⟨a5, fs6, e9, h7, h7b, H⟩ := H; cases e9
  refine r_putF (M := m_X3_init) (pc := 11) dX3_init_11 "VersionSearch$Reader" 3 1 _ rfl (Nat.le_of_ble_eq_true rfl) q550 (Or.inl rfl) rfl rfl rfl h7 (Nat.le_of_ble_eq_true rfl) h7b rfl rfl ?_
  refine r_aload_n (M := m_X3_init) (pc := 14) dX3_init_14 0 rfl rfl ?_
  obtain ⟨a10, us11, e9, h12, H⟩ := H; cases e9
  refine r_V (M := m_X3_init) (pc := 15) dX3_init_15 m_X3_step k_X3_step q315 q316 3 _ rfl q318 (av := []) (dy := d) n_X3_step h12 rfl (pw_c4 (Nat.le_of_ble_eq_true rfl)) (Nat.le_refl _) (H.mono (pw_nx_v (fun w9 H1 => ?_)))
  replace H := H1; clear H1
  exact r_return (M := m_X3_init) (pc := 18) dX3_init_18 rfl H
theorem s_X3_init_k8_0 {E : pw_E} {d : Nat} {w : pw_W} {Post : pw_R → pw_W → Prop} (a0 : Nat) (v1 : Option Nat) (v2 : Int32) (H : f_put E w (some a0) 8 0 (va_rf v1) (fun w4 => f_put E w4 (some a0) 8 1 (.int v2) (fun w8 => f_V E w8 (some a0) 8 m_X3_step d [] (c_v (fun w9 => Post (.inl none) w9))))) : pw_Wp E m_X3_init (d + 1) 0 [some (va_rf (some a0)), some (va_rf v1), some (.int v2)] [] w Post := by
  refine r_aload_n (M := m_X3_init) (pc := 0) dX3_init_0 0 rfl rfl ?_
  refine r_objInit (M := m_X3_init) (pc := 1) dX3_init_1 q314 q197 q198 (Nat.succ_pos _) (Nat.le_of_ble_eq_true rfl) ?_
  refine r_aload_n (M := m_X3_init) (pc := 4) dX3_init_4 0 rfl rfl ?_
  refine r_aload_n (M := m_X3_init) (pc := 5) dX3_init_5 1 rfl rfl ?_
  obtain ⟨a1, fs2, e9, h3, h3b, H⟩ := H; cases e9
  refine r_putF (M := m_X3_init) (pc := 6) dX3_init_6 "VersionSearch$Reader" 8 0 _ rfl (Nat.le_of_ble_eq_true rfl) q549 (Or.inl rfl) rfl rfl rfl h3 (Nat.le_of_ble_eq_true rfl) h3b (nar_ra _ _) (fit_ra _ _) ?_
  refine r_aload_n (M := m_X3_init) (pc := 9) dX3_init_9 0 rfl rfl ?_
  refine r_iload_n (M := m_X3_init) (pc := 10) dX3_init_10 2 rfl rfl ?_
  obtain ⟨a5, fs6, e9, h7, h7b, H⟩ := H; cases e9
  refine r_putF (M := m_X3_init) (pc := 11) dX3_init_11 "VersionSearch$Reader" 8 1 _ rfl (Nat.le_of_ble_eq_true rfl) q550 (Or.inl rfl) rfl rfl rfl h7 (Nat.le_of_ble_eq_true rfl) h7b rfl rfl ?_
  refine r_aload_n (M := m_X3_init) (pc := 14) dX3_init_14 0 rfl rfl ?_
  obtain ⟨a10, us11, e9, h12, H⟩ := H; cases e9
  refine r_V (M := m_X3_init) (pc := 15) dX3_init_15 m_X3_step k_X3_step q315 q316 8 _ rfl q319 (av := []) (dy := d) n_X3_step h12 rfl (pw_c4 (Nat.le_of_ble_eq_true rfl)) (Nat.le_refl _) (H.mono (pw_nx_v (fun w9 H1 => ?_)))
  replace H := H1; clear H1
  exact r_return (M := m_X3_init) (pc := 18) dX3_init_18 rfl H
theorem s_X3_init_k9_0 {E : pw_E} {d : Nat} {w : pw_W} {Post : pw_R → pw_W → Prop} (a0 : Nat) (v1 : Option Nat) (v2 : Int32) (H : f_put E w (some a0) 9 0 (va_rf v1) (fun w4 => f_put E w4 (some a0) 9 1 (.int v2) (fun w8 => f_V E w8 (some a0) 9 m_X3_step d [] (c_v (fun w9 => Post (.inl none) w9))))) : pw_Wp E m_X3_init (d + 1) 0 [some (va_rf (some a0)), some (va_rf v1), some (.int v2)] [] w Post := by
  refine r_aload_n (M := m_X3_init) (pc := 0) dX3_init_0 0 rfl rfl ?_
  refine r_objInit (M := m_X3_init) (pc := 1) dX3_init_1 q314 q197 q198 (Nat.succ_pos _) (Nat.le_of_ble_eq_true rfl) ?_
  refine r_aload_n (M := m_X3_init) (pc := 4) dX3_init_4 0 rfl rfl ?_
  refine r_aload_n (M := m_X3_init) (pc := 5) dX3_init_5 1 rfl rfl ?_
  obtain ⟨a1, fs2, e9, h3, h3b, H⟩ := H; cases e9
  refine r_putF (M := m_X3_init) (pc := 6) dX3_init_6 "VersionSearch$Reader" 9 0 _ rfl (Nat.le_of_ble_eq_true rfl) q549 (Or.inl rfl) rfl rfl rfl h3 (Nat.le_of_ble_eq_true rfl) h3b (nar_ra _ _) (fit_ra _ _) ?_
  refine r_aload_n (M := m_X3_init) (pc := 9) dX3_init_9 0 rfl rfl ?_
  refine r_iload_n (M := m_X3_init) (pc := 10) dX3_init_10 2 rfl rfl ?_
  obtain ⟨a5, fs6, e9, h7, h7b, H⟩ := H; cases e9
  refine r_putF (M := m_X3_init) (pc := 11) dX3_init_11 "VersionSearch$Reader" 9 1 _ rfl (Nat.le_of_ble_eq_true rfl) q550 (Or.inl rfl) rfl rfl rfl h7 (Nat.le_of_ble_eq_true rfl) h7b rfl rfl ?_
  refine r_aload_n (M := m_X3_init) (pc := 14) dX3_init_14 0 rfl rfl ?_
  obtain ⟨a10, us11, e9, h12, H⟩ := H; cases e9
  refine r_V (M := m_X3_init) (pc := 15) dX3_init_15 m_X3_step k_X3_step q315 q316 9 _ rfl q320 (av := []) (dy := d) n_X3_step h12 rfl (pw_c4 (Nat.le_of_ble_eq_true rfl)) (Nat.le_refl _) (H.mono (pw_nx_v (fun w9 H1 => ?_)))
  replace H := H1; clear H1
  exact r_return (M := m_X3_init) (pc := 18) dX3_init_18 rfl H
theorem s_X3_init_K_0 {E : pw_E} {d : Nat} {w : pw_W} {Post : pw_R → pw_W → Prop} {k : Nat} (hk : k = 3 ∨ k = 8 ∨ k = 9) (a0 : Nat) (v1 : Option Nat) (v2 : Int32) (H : f_put E w (some a0) k 0 (va_rf v1) (fun w4 => f_put E w4 (some a0) k 1 (.int v2) (fun w8 => f_V E w8 (some a0) k m_X3_step d [] (c_v (fun w9 => Post (.inl none) w9))))) : pw_Wp E m_X3_init (d + 1) 0 [some (va_rf (some a0)), some (va_rf v1), some (.int v2)] [] w Post := by
  rcases hk with rfl | rfl | rfl
  · exact s_X3_init_k3_0 a0 v1 v2 H
  · exact s_X3_init_k8_0 a0 v1 v2 H
  · exact s_X3_init_k9_0 a0 v1 v2 H
theorem s_X3_isDigit_k3_0 {E : pw_E} {d : Nat} {w : pw_W} {Post : pw_R → pw_W → Prop} (v0 : Int32) (H : (if v0 < 48 then Post (.inl (some (.int 0))) w else (if 57 < v0 then Post (.inl (some (.int 0))) w else Post (.inl (some (.int 1))) w))) : pw_Wp E m_X3_isDigit (d + 1) 0 [some (.int v0)] [] w Post := by
  refine r_iload_n (M := m_X3_isDigit) (pc := 0) dX3_isDigit_0 0 rfl rfl ?_
  refine r_bipush (M := m_X3_isDigit) (pc := 1) dX3_isDigit_1 48 rfl ?_
  refine r_icmp_lt (M := m_X3_isDigit) (pc := 3) dX3_isDigit_3 16 (by decide) (fun hc => ?_) (fun hc => ?_)
  · replace H := f_it H hc
    refine r_iconst (M := m_X3_isDigit) (pc := 16) dX3_isDigit_16 0 rfl ?_
    exact r_zreturn (M := m_X3_isDigit) (pc := 17) dX3_isDigit_17 rfl rfl H
  · replace H := f_if H hc
    refine r_iload_n (M := m_X3_isDigit) (pc := 6) dX3_isDigit_6 0 rfl rfl ?_
    refine r_bipush (M := m_X3_isDigit) (pc := 7) dX3_isDigit_7 57 rfl ?_
    refine r_icmp_gt (M := m_X3_isDigit) (pc := 9) dX3_isDigit_9 16 (by decide) (fun hc => ?_) (fun hc => ?_)
    · replace H := f_it H hc
      refine r_iconst (M := m_X3_isDigit) (pc := 16) dX3_isDigit_16 0 rfl ?_
      exact r_zreturn (M := m_X3_isDigit) (pc := 17) dX3_isDigit_17 rfl rfl H
    · replace H := f_if H hc
      refine r_iconst (M := m_X3_isDigit) (pc := 12) dX3_isDigit_12 1 rfl ?_
      refine r_goto (M := m_X3_isDigit) (pc := 13) dX3_isDigit_13 17 (by decide) ?_
      exact r_zreturn (M := m_X3_isDigit) (pc := 17) dX3_isDigit_17 rfl rfl H
theorem s_X3_isDigit_k8_0 {E : pw_E} {d : Nat} {w : pw_W} {Post : pw_R → pw_W → Prop} (v0 : Int32) (H : (if v0 < 48 then Post (.inl (some (.int 0))) w else (if 57 < v0 then Post (.inl (some (.int 0))) w else Post (.inl (some (.int 1))) w))) : pw_Wp E m_X3_isDigit (d + 1) 0 [some (.int v0)] [] w Post := by
  refine r_iload_n (M := m_X3_isDigit) (pc := 0) dX3_isDigit_0 0 rfl rfl ?_
  refine r_bipush (M := m_X3_isDigit) (pc := 1) dX3_isDigit_1 48 rfl ?_
  refine r_icmp_lt (M := m_X3_isDigit) (pc := 3) dX3_isDigit_3 16 (by decide) (fun hc => ?_) (fun hc => ?_)
  · replace H := f_it H hc
    refine r_iconst (M := m_X3_isDigit) (pc := 16) dX3_isDigit_16 0 rfl ?_
    exact r_zreturn (M := m_X3_isDigit) (pc := 17) dX3_isDigit_17 rfl rfl H
  · replace H := f_if H hc
    refine r_iload_n (M := m_X3_isDigit) (pc := 6) dX3_isDigit_6 0 rfl rfl ?_
    refine r_bipush (M := m_X3_isDigit) (pc := 7) dX3_isDigit_7 57 rfl ?_
    refine r_icmp_gt (M := m_X3_isDigit) (pc := 9) dX3_isDigit_9 16 (by decide) (fun hc => ?_) (fun hc => ?_)
    · replace H := f_it H hc
      refine r_iconst (M := m_X3_isDigit) (pc := 16) dX3_isDigit_16 0 rfl ?_
      exact r_zreturn (M := m_X3_isDigit) (pc := 17) dX3_isDigit_17 rfl rfl H
    · replace H := f_if H hc
      refine r_iconst (M := m_X3_isDigit) (pc := 12) dX3_isDigit_12 1 rfl ?_
      refine r_goto (M := m_X3_isDigit) (pc := 13) dX3_isDigit_13 17 (by decide) ?_
      exact r_zreturn (M := m_X3_isDigit) (pc := 17) dX3_isDigit_17 rfl rfl H
theorem s_X3_isDigit_k9_0 {E : pw_E} {d : Nat} {w : pw_W} {Post : pw_R → pw_W → Prop} (v0 : Int32) (H : (if v0 < 48 then Post (.inl (some (.int 0))) w else (if 57 < v0 then Post (.inl (some (.int 0))) w else Post (.inl (some (.int 1))) w))) : pw_Wp E m_X3_isDigit (d + 1) 0 [some (.int v0)] [] w Post := by
  refine r_iload_n (M := m_X3_isDigit) (pc := 0) dX3_isDigit_0 0 rfl rfl ?_
  refine r_bipush (M := m_X3_isDigit) (pc := 1) dX3_isDigit_1 48 rfl ?_
  refine r_icmp_lt (M := m_X3_isDigit) (pc := 3) dX3_isDigit_3 16 (by decide) (fun hc => ?_) (fun hc => ?_)
  · replace H := f_it H hc
    refine r_iconst (M := m_X3_isDigit) (pc := 16) dX3_isDigit_16 0 rfl ?_
    exact r_zreturn (M := m_X3_isDigit) (pc := 17) dX3_isDigit_17 rfl rfl H
  · replace H := f_if H hc
    refine r_iload_n (M := m_X3_isDigit) (pc := 6) dX3_isDigit_6 0 rfl rfl ?_
    refine r_bipush (M := m_X3_isDigit) (pc := 7) dX3_isDigit_7 57 rfl ?_
    refine r_icmp_gt (M := m_X3_isDigit) (pc := 9) dX3_isDigit_9 16 (by decide) (fun hc => ?_) (fun hc => ?_)
    · replace H := f_it H hc
      refine r_iconst (M := m_X3_isDigit) (pc := 16) dX3_isDigit_16 0 rfl ?_
      exact r_zreturn (M := m_X3_isDigit) (pc := 17) dX3_isDigit_17 rfl rfl H
    · replace H := f_if H hc
      refine r_iconst (M := m_X3_isDigit) (pc := 12) dX3_isDigit_12 1 rfl ?_
      refine r_goto (M := m_X3_isDigit) (pc := 13) dX3_isDigit_13 17 (by decide) ?_
      exact r_zreturn (M := m_X3_isDigit) (pc := 17) dX3_isDigit_17 rfl rfl H
theorem s_X3_isLetter_k3_0 {E : pw_E} {d : Nat} {w : pw_W} {Post : pw_R → pw_W → Prop} (v0 : Int32) (H : (if v0 < 97 then Post (.inl (some (.int 0))) w else (if 122 < v0 then Post (.inl (some (.int 0))) w else Post (.inl (some (.int 1))) w))) : pw_Wp E m_X3_isLetter (d + 1) 0 [some (.int v0)] [] w Post := by
  refine r_iload_n (M := m_X3_isLetter) (pc := 0) dX3_isLetter_0 0 rfl rfl ?_
  refine r_bipush (M := m_X3_isLetter) (pc := 1) dX3_isLetter_1 97 rfl ?_
  refine r_icmp_lt (M := m_X3_isLetter) (pc := 3) dX3_isLetter_3 16 (by decide) (fun hc => ?_) (fun hc => ?_)
  · replace H := f_it H hc
    refine r_iconst (M := m_X3_isLetter) (pc := 16) dX3_isLetter_16 0 rfl ?_
    exact r_zreturn (M := m_X3_isLetter) (pc := 17) dX3_isLetter_17 rfl rfl H
  · replace H := f_if H hc
    refine r_iload_n (M := m_X3_isLetter) (pc := 6) dX3_isLetter_6 0 rfl rfl ?_
    refine r_bipush (M := m_X3_isLetter) (pc := 7) dX3_isLetter_7 122 rfl ?_
    refine r_icmp_gt (M := m_X3_isLetter) (pc := 9) dX3_isLetter_9 16 (by decide) (fun hc => ?_) (fun hc => ?_)
    · replace H := f_it H hc
      refine r_iconst (M := m_X3_isLetter) (pc := 16) dX3_isLetter_16 0 rfl ?_
      exact r_zreturn (M := m_X3_isLetter) (pc := 17) dX3_isLetter_17 rfl rfl H
    · replace H := f_if H hc
      refine r_iconst (M := m_X3_isLetter) (pc := 12) dX3_isLetter_12 1 rfl ?_
      refine r_goto (M := m_X3_isLetter) (pc := 13) dX3_isLetter_13 17 (by decide) ?_
      exact r_zreturn (M := m_X3_isLetter) (pc := 17) dX3_isLetter_17 rfl rfl H
theorem s_X3_isLetter_k8_0 {E : pw_E} {d : Nat} {w : pw_W} {Post : pw_R → pw_W → Prop} (v0 : Int32) (H : (if v0 < 97 then Post (.inl (some (.int 0))) w else (if 122 < v0 then Post (.inl (some (.int 0))) w else Post (.inl (some (.int 1))) w))) : pw_Wp E m_X3_isLetter (d + 1) 0 [some (.int v0)] [] w Post := by
  refine r_iload_n (M := m_X3_isLetter) (pc := 0) dX3_isLetter_0 0 rfl rfl ?_
  refine r_bipush (M := m_X3_isLetter) (pc := 1) dX3_isLetter_1 97 rfl ?_
  refine r_icmp_lt (M := m_X3_isLetter) (pc := 3) dX3_isLetter_3 16 (by decide) (fun hc => ?_) (fun hc => ?_)
  · replace H := f_it H hc
    refine r_iconst (M := m_X3_isLetter) (pc := 16) dX3_isLetter_16 0 rfl ?_
    exact r_zreturn (M := m_X3_isLetter) (pc := 17) dX3_isLetter_17 rfl rfl H
  · replace H := f_if H hc
    refine r_iload_n (M := m_X3_isLetter) (pc := 6) dX3_isLetter_6 0 rfl rfl ?_
    refine r_bipush (M := m_X3_isLetter) (pc := 7) dX3_isLetter_7 122 rfl ?_
    refine r_icmp_gt (M := m_X3_isLetter) (pc := 9) dX3_isLetter_9 16 (by decide) (fun hc => ?_) (fun hc => ?_)
    · replace H := f_it H hc
      refine r_iconst (M := m_X3_isLetter) (pc := 16) dX3_isLetter_16 0 rfl ?_
      exact r_zreturn (M := m_X3_isLetter) (pc := 17) dX3_isLetter_17 rfl rfl H
    · replace H := f_if H hc
      refine r_iconst (M := m_X3_isLetter) (pc := 12) dX3_isLetter_12 1 rfl ?_
      refine r_goto (M := m_X3_isLetter) (pc := 13) dX3_isLetter_13 17 (by decide) ?_
      exact r_zreturn (M := m_X3_isLetter) (pc := 17) dX3_isLetter_17 rfl rfl H
theorem s_X3_isLetter_k9_0 {E : pw_E} {d : Nat} {w : pw_W} {Post : pw_R → pw_W → Prop} (v0 : Int32) (H : (if v0 < 97 then Post (.inl (some (.int 0))) w else (if 122 < v0 then Post (.inl (some (.int 0))) w else Post (.inl (some (.int 1))) w))) : pw_Wp E m_X3_isLetter (d + 1) 0 [some (.int v0)] [] w Post := by
  refine r_iload_n (M := m_X3_isLetter) (pc := 0) dX3_isLetter_0 0 rfl rfl ?_
  refine r_bipush (M := m_X3_isLetter) (pc := 1) dX3_isLetter_1 97 rfl ?_
  refine r_icmp_lt (M := m_X3_isLetter) (pc := 3) dX3_isLetter_3 16 (by decide) (fun hc => ?_) (fun hc => ?_)
  · replace H := f_it H hc
    refine r_iconst (M := m_X3_isLetter) (pc := 16) dX3_isLetter_16 0 rfl ?_
    exact r_zreturn (M := m_X3_isLetter) (pc := 17) dX3_isLetter_17 rfl rfl H
  · replace H := f_if H hc
    refine r_iload_n (M := m_X3_isLetter) (pc := 6) dX3_isLetter_6 0 rfl rfl ?_
    refine r_bipush (M := m_X3_isLetter) (pc := 7) dX3_isLetter_7 122 rfl ?_
    refine r_icmp_gt (M := m_X3_isLetter) (pc := 9) dX3_isLetter_9 16 (by decide) (fun hc => ?_) (fun hc => ?_)
    · replace H := f_it H hc
      refine r_iconst (M := m_X3_isLetter) (pc := 16) dX3_isLetter_16 0 rfl ?_
      exact r_zreturn (M := m_X3_isLetter) (pc := 17) dX3_isLetter_17 rfl rfl H
    · replace H := f_if H hc
      refine r_iconst (M := m_X3_isLetter) (pc := 12) dX3_isLetter_12 1 rfl ?_
      refine r_goto (M := m_X3_isLetter) (pc := 13) dX3_isLetter_13 17 (by decide) ?_
      exact r_zreturn (M := m_X3_isLetter) (pc := 17) dX3_isLetter_17 rfl rfl H
theorem s_X3_isWord_k3_0 {E : pw_E} {d : Nat} {w : pw_W} {Post : pw_R → pw_W → Prop} (v0 : Option Nat) (H : f_getr w v0 3 5 (fun x1 => f_str E 13 (fun x5 => (if x1 = x5 then Post (.inl (some (.int 1))) w else Post (.inl (some (.int 0))) w)))) : pw_Wp E m_X3_isWord (d + 1) 0 [some (va_rf v0)] [] w Post := by
  refine r_aload_n (M := m_X3_isWord) (pc := 0) dX3_isWord_0 0 rfl rfl ?_
  obtain ⟨a2, fs3, x1, e9, h4, h4v, H⟩ := H; cases e9
  refine r_get (M := m_X3_isWord) (pc := 1) dX3_isWord_1 "VersionSearch$Reader" 3 5 _ rfl (Nat.le_of_ble_eq_true rfl) q554 (Or.inl rfl) h4 (Nat.le_of_ble_eq_true rfl) h4v ?_
  obtain ⟨x5, h6, H⟩ := H
  refine r_getstatic (M := m_X3_isWord) (pc := 4) dX3_isWord_4 13 _ rfl q518 h6 ?_
  refine r_acmp_ne (M := m_X3_isWord) (pc := 7) dX3_isWord_7 14 (by decide) (fun hc => ?_) (fun hc => ?_)
  · replace H := f_if H hc
    refine r_iconst (M := m_X3_isWord) (pc := 14) dX3_isWord_14 0 rfl ?_
    exact r_zreturn (M := m_X3_isWord) (pc := 15) dX3_isWord_15 rfl rfl H
  · replace H := f_it H hc
    refine r_iconst (M := m_X3_isWord) (pc := 10) dX3_isWord_10 1 rfl ?_
    refine r_goto (M := m_X3_isWord) (pc := 11) dX3_isWord_11 15 (by decide) ?_
    exact r_zreturn (M := m_X3_isWord) (pc := 15) dX3_isWord_15 rfl rfl H
theorem s_X3_isWord_k8_0 {E : pw_E} {d : Nat} {w : pw_W} {Post : pw_R → pw_W → Prop} (v0 : Option Nat) (H : f_getr w v0 8 5 (fun x1 => f_str E 13 (fun x5 => (if x1 = x5 then Post (.inl (some (.int 1))) w else Post (.inl (some (.int 0))) w)))) : pw_Wp E m_X3_isWord (d + 1) 0 [some (va_rf v0)] [] w Post := by
  refine r_aload_n (M := m_X3_isWord) (pc := 0) dX3_isWord_0 0 rfl rfl ?_
  obtain ⟨a2, fs3, x1, e9, h4, h4v, H⟩ := H; cases e9
  refine r_get (M := m_X3_isWord) (pc := 1) dX3_isWord_1 "VersionSearch$Reader" 8 5 _ rfl (Nat.le_of_ble_eq_true rfl) q554 (Or.inl rfl) h4 (Nat.le_of_ble_eq_true rfl) h4v ?_
  obtain ⟨x5, h6, H⟩ := H
  refine r_getstatic (M := m_X3_isWord) (pc := 4) dX3_isWord_4 13 _ rfl q518 h6 ?_
  refine r_acmp_ne (M := m_X3_isWord) (pc := 7) dX3_isWord_7 14 (by decide) (fun hc => ?_) (fun hc => ?_)
  · replace H := f_if H hc
    refine r_iconst (M := m_X3_isWord) (pc := 14) dX3_isWord_14 0 rfl ?_
    exact r_zreturn (M := m_X3_isWord) (pc := 15) dX3_isWord_15 rfl rfl H
  · replace H := f_it H hc
    refine r_iconst (M := m_X3_isWord) (pc := 10) dX3_isWord_10 1 rfl ?_
    refine r_goto (M := m_X3_isWord) (pc := 11) dX3_isWord_11 15 (by decide) ?_
    exact r_zreturn (M := m_X3_isWord) (pc := 15) dX3_isWord_15 rfl rfl H
theorem s_X3_isWord_k9_0 {E : pw_E} {d : Nat} {w : pw_W} {Post : pw_R → pw_W → Prop} (v0 : Option Nat) (H : f_getr w v0 9 5 (fun x1 => f_str E 13 (fun x5 => (if x1 = x5 then Post (.inl (some (.int 1))) w else Post (.inl (some (.int 0))) w)))) : pw_Wp E m_X3_isWord (d + 1) 0 [some (va_rf v0)] [] w Post := by
  refine r_aload_n (M := m_X3_isWord) (pc := 0) dX3_isWord_0 0 rfl rfl ?_
  obtain ⟨a2, fs3, x1, e9, h4, h4v, H⟩ := H; cases e9
  refine r_get (M := m_X3_isWord) (pc := 1) dX3_isWord_1 "VersionSearch$Reader" 9 5 _ rfl (Nat.le_of_ble_eq_true rfl) q554 (Or.inl rfl) h4 (Nat.le_of_ble_eq_true rfl) h4v ?_
  obtain ⟨x5, h6, H⟩ := H
  refine r_getstatic (M := m_X3_isWord) (pc := 4) dX3_isWord_4 13 _ rfl q518 h6 ?_
  refine r_acmp_ne (M := m_X3_isWord) (pc := 7) dX3_isWord_7 14 (by decide) (fun hc => ?_) (fun hc => ?_)
  · replace H := f_if H hc
    refine r_iconst (M := m_X3_isWord) (pc := 14) dX3_isWord_14 0 rfl ?_
    exact r_zreturn (M := m_X3_isWord) (pc := 15) dX3_isWord_15 rfl rfl H
  · replace H := f_it H hc
    refine r_iconst (M := m_X3_isWord) (pc := 10) dX3_isWord_10 1 rfl ?_
    refine r_goto (M := m_X3_isWord) (pc := 11) dX3_isWord_11 15 (by decide) ?_
    exact r_zreturn (M := m_X3_isWord) (pc := 15) dX3_isWord_15 rfl rfl H
theorem s_X3_isWord_K_0 {E : pw_E} {d : Nat} {w : pw_W} {Post : pw_R → pw_W → Prop} {k : Nat} (hk : k = 3 ∨ k = 8 ∨ k = 9) (v0 : Option Nat) (H : f_getr w v0 k 5 (fun x1 => f_str E 13 (fun x5 => (if x1 = x5 then Post (.inl (some (.int 1))) w else Post (.inl (some (.int 0))) w)))) : pw_Wp E m_X3_isWord (d + 1) 0 [some (va_rf v0)] [] w Post := by
  rcases hk with rfl | rfl | rfl
  · exact s_X3_isWord_k3_0 v0 H
  · exact s_X3_isWord_k8_0 v0 H
  · exact s_X3_isWord_k9_0 v0 H
theorem s_X3_lines_k3_0 {E : pw_E} {d : Nat} {w : pw_W} {Post : pw_R → pw_W → Prop} (v0 : Option Nat) (H : f_getr w v0 3 5 (fun x1 => f_str E 12 (fun x5 => (if x1 = x5 then f_getr w v0 3 7 (fun x7 => (if x7 = none then Post (.inl none) w else f_getr w v0 3 7 (fun x11 => (∃ q9 : Nat, x11 = some q9 ∧ x_out E w q9 Post)))) else f_V E w v0 3 m_X4_line d [] (c_x (c_v (fun w15 => f_getr w15 v0 3 5 (fun x19 => f_str E 16 (fun x23 => (if x19 = x23 then f_V E w15 v0 3 m_X3_step d [] (c_v (fun w25 => pw_Wp E m_X3_lines (d + 1) 0 [some (va_rf v0)] [] w25 Post)) else f_V E w15 v0 3 m_X3_wrong d [] (c_r (fun o30 w29 => (∃ q9 : Nat, o30 = some q9 ∧ x_out E w29 q9 Post)))))))) (fun q8 w8 => x_out E w8 q8 Post)))))) : pw_Wp E m_X3_lines (d + 1) 0 [some (va_rf v0)] [] w Post := by
  refine r_aload_n (M := m_X3_lines) (pc := 0) dX3_lines_0 0 rfl rfl ?_
  obtain ⟨a2, fs3, x1, e9, h4, h4v, H⟩ := H; cases e9
  refine r_get (M := m_X3_lines) (pc := 1) dX3_lines_1 "VersionSearch$Reader" 3 5 _ rfl (Nat.le_of_ble_eq_true rfl) q554 (Or.inl rfl) h4 (Nat.le_of_ble_eq_true rfl) h4v ?_
  obtain ⟨x5, h6, H⟩ := H
  refine r_getstatic (M := m_X3_lines) (pc := 4) dX3_lines_4 12 _ rfl q326 h6 ?_
  refine r_acmp_eq (M := m_X3_lines) (pc := 7) dX3_lines_7 36 (by decide) (fun hc => ?_) (fun hc => ?_)
  · replace H := f_it H hc
    refine r_aload_n (M := m_X3_lines) (pc := 36) dX3_lines_36 0 rfl rfl ?_
    obtain ⟨a8, fs9, x7, e9, h10, h10v, H⟩ := H; cases e9
    refine r_get (M := m_X3_lines) (pc := 37) dX3_lines_37 "VersionSearch$Reader" 3 7 _ rfl (Nat.le_of_ble_eq_true rfl) q556 (Or.inl rfl) h10 (Nat.le_of_ble_eq_true rfl) h10v ?_
    refine r_ifnull (M := m_X3_lines) (pc := 40) dX3_lines_40 48 (by decide) (fun hc => ?_) (fun hc => ?_)
    · replace H := f_it H hc
      exact r_return (M := m_X3_lines) (pc := 48) dX3_lines_48 rfl H
    · replace H := f_if H hc
      refine r_aload_n (M := m_X3_lines) (pc := 43) dX3_lines_43 0 rfl rfl ?_
      obtain ⟨a12, fs13, x11, e9, h14, h14v, H⟩ := H; cases e9
      refine r_get (M := m_X3_lines) (pc := 44) dX3_lines_44 "VersionSearch$Reader" 3 7 _ rfl (Nat.le_of_ble_eq_true rfl) q556 (Or.inl rfl) h14 (Nat.le_of_ble_eq_true rfl) h14v ?_
      obtain ⟨q9, e9, H⟩ := H; cases e9
      exact r_athrow (M := m_X3_lines) (pc := 47) dX3_lines_47 (x_out_use rfl H)
  · replace H := f_if H hc
    refine r_aload_n (M := m_X3_lines) (pc := 10) dX3_lines_10 0 rfl rfl ?_
    obtain ⟨a16, us17, e9, h18, H⟩ := H; cases e9
    refine r_U (M := m_X3_lines) (pc := 11) dX3_lines_11 ⟨"VersionSearch$Reader", "line", "()V"⟩ "VersionSearch$Reader" m_X4_line k_X4_line q589 q591 q593 3 _ rfl q592 (Or.inl q590) ⟨by decide +kernel, by decide +kernel⟩ (av := []) (dy := d) (pw_nyl (n := 0) (by decide +kernel)) h18 rfl (pw_c4 (Nat.le_of_ble_eq_true rfl)) (Nat.le_refl _) (H.mono (pw_nx_x (pw_nx_v (fun w15 H1 => ?_)) (fun q8 w8 H1 => ?_)))
    · replace H := H1; clear H1
      refine r_aload_n (M := m_X3_lines) (pc := 14) dX3_lines_14 0 rfl rfl ?_
      obtain ⟨a20, fs21, x19, e9, h22, h22v, H⟩ := H; cases e9
      refine r_get (M := m_X3_lines) (pc := 15) dX3_lines_15 "VersionSearch$Reader" 3 5 _ rfl (Nat.le_of_ble_eq_true rfl) q554 (Or.inl rfl) h22 (Nat.le_of_ble_eq_true rfl) h22v ?_
      obtain ⟨x23, h24, H⟩ := H
      refine r_getstatic (M := m_X3_lines) (pc := 18) dX3_lines_18 16 _ rfl q527 h24 ?_
      refine r_acmp_eq (M := m_X3_lines) (pc := 21) dX3_lines_21 29 (by decide) (fun hc => ?_) (fun hc => ?_)
      · replace H := f_it H hc
        refine r_aload_n (M := m_X3_lines) (pc := 29) dX3_lines_29 0 rfl rfl ?_
        obtain ⟨a26, us27, e9, h28, H⟩ := H; cases e9
        refine r_V (M := m_X3_lines) (pc := 30) dX3_lines_30 m_X3_step k_X3_step q315 q316 3 _ rfl q318 (av := []) (dy := d) n_X3_step h28 rfl (pw_c4 (Nat.le_of_ble_eq_true rfl)) (Nat.le_refl _) (H.mono (pw_nx_v (fun w25 H1 => ?_)))
        replace H := H1; clear H1
        refine r_goto (M := m_X3_lines) (pc := 33) dX3_lines_33 0 (by decide) ?_
        exact pw_weak (le_s le_0) H
      · replace H := f_if H hc
        refine r_aload_n (M := m_X3_lines) (pc := 24) dX3_lines_24 0 rfl rfl ?_
        obtain ⟨a31, us32, e9, h33, H⟩ := H; cases e9
        refine r_V (M := m_X3_lines) (pc := 25) dX3_lines_25 m_X3_wrong k_X3_wrong q617 q618 3 _ rfl q620 (av := []) (dy := d) n_X3_wrong h33 rfl (pw_c4 (Nat.le_of_ble_eq_true rfl)) (Nat.le_refl _) (H.mono (pw_nx_r (fun o30 w29 H1 => ?_)))
        replace H := H1; clear H1
        obtain ⟨q9, e9, H⟩ := H; cases e9
        exact r_athrow (M := m_X3_lines) (pc := 28) dX3_lines_28 (x_out_use rfl H)
    · replace H := H1; clear H1
      exact x_out_use rfl H
theorem s_X3_lines_k8_0 {E : pw_E} {d : Nat} {w : pw_W} {Post : pw_R → pw_W → Prop} (v0 : Option Nat) (H : f_getr w v0 8 5 (fun x1 => f_str E 12 (fun x5 => (if x1 = x5 then f_getr w v0 8 7 (fun x7 => (if x7 = none then Post (.inl none) w else f_getr w v0 8 7 (fun x11 => (∃ q9 : Nat, x11 = some q9 ∧ x_out E w q9 Post)))) else f_V E w v0 8 m_X9_line d [] (c_x (c_v (fun w15 => f_getr w15 v0 8 5 (fun x19 => f_str E 16 (fun x23 => (if x19 = x23 then f_V E w15 v0 8 m_X3_step d [] (c_v (fun w25 => pw_Wp E m_X3_lines (d + 1) 0 [some (va_rf v0)] [] w25 Post)) else f_V E w15 v0 8 m_X3_wrong d [] (c_r (fun o30 w29 => (∃ q9 : Nat, o30 = some q9 ∧ x_out E w29 q9 Post)))))))) (fun q8 w8 => x_out E w8 q8 Post)))))) : pw_Wp E m_X3_lines (d + 1) 0 [some (va_rf v0)] [] w Post := by
  refine r_aload_n (M := m_X3_lines) (pc := 0) dX3_lines_0 0 rfl rfl ?_
  obtain ⟨a2, fs3, x1, e9, h4, h4v, H⟩ := H; cases e9
  refine r_get (M := m_X3_lines) (pc := 1) dX3_lines_1 "VersionSearch$Reader" 8 5 _ rfl (Nat.le_of_ble_eq_true rfl) q554 (Or.inl rfl) h4 (Nat.le_of_ble_eq_true rfl) h4v ?_
  obtain ⟨x5, h6, H⟩ := H
  refine r_getstatic (M := m_X3_lines) (pc := 4) dX3_lines_4 12 _ rfl q326 h6 ?_
  refine r_acmp_eq (M := m_X3_lines) (pc := 7) dX3_lines_7 36 (by decide) (fun hc => ?_) (fun hc => ?_)
  · replace H := f_it H hc
    refine r_aload_n (M := m_X3_lines) (pc := 36) dX3_lines_36 0 rfl rfl ?_
    obtain ⟨a8, fs9, x7, e9, h10, h10v, H⟩ := H; cases e9
    refine r_get (M := m_X3_lines) (pc := 37) dX3_lines_37 "VersionSearch$Reader" 8 7 _ rfl (Nat.le_of_ble_eq_true rfl) q556 (Or.inl rfl) h10 (Nat.le_of_ble_eq_true rfl) h10v ?_
    refine r_ifnull (M := m_X3_lines) (pc := 40) dX3_lines_40 48 (by decide) (fun hc => ?_) (fun hc => ?_)
    · replace H := f_it H hc
      exact r_return (M := m_X3_lines) (pc := 48) dX3_lines_48 rfl H
    · replace H := f_if H hc
      refine r_aload_n (M := m_X3_lines) (pc := 43) dX3_lines_43 0 rfl rfl ?_
      obtain ⟨a12, fs13, x11, e9, h14, h14v, H⟩ := H; cases e9
      refine r_get (M := m_X3_lines) (pc := 44) dX3_lines_44 "VersionSearch$Reader" 8 7 _ rfl (Nat.le_of_ble_eq_true rfl) q556 (Or.inl rfl) h14 (Nat.le_of_ble_eq_true rfl) h14v ?_
      obtain ⟨q9, e9, H⟩ := H; cases e9
      exact r_athrow (M := m_X3_lines) (pc := 47) dX3_lines_47 (x_out_use rfl H)
  · replace H := f_if H hc
    refine r_aload_n (M := m_X3_lines) (pc := 10) dX3_lines_10 0 rfl rfl ?_
    obtain ⟨a16, us17, e9, h18, H⟩ := H; cases e9
    refine r_U (M := m_X3_lines) (pc := 11) dX3_lines_11 ⟨"VersionSearch$Reader", "line", "()V"⟩ "VersionSearch$Reader" m_X9_line k_X9_line q589 q591 q1074 8 _ rfl q1073 (Or.inl q590) ⟨by decide +kernel, by decide +kernel⟩ (av := []) (dy := d) (pw_nyl (n := 0) (by decide +kernel)) h18 rfl (pw_c4 (Nat.le_of_ble_eq_true rfl)) (Nat.le_refl _) (H.mono (pw_nx_x (pw_nx_v (fun w15 H1 => ?_)) (fun q8 w8 H1 => ?_)))
    · replace H := H1; clear H1
      refine r_aload_n (M := m_X3_lines) (pc := 14) dX3_lines_14 0 rfl rfl ?_
      obtain ⟨a20, fs21, x19, e9, h22, h22v, H⟩ := H; cases e9
      refine r_get (M := m_X3_lines) (pc := 15) dX3_lines_15 "VersionSearch$Reader" 8 5 _ rfl (Nat.le_of_ble_eq_true rfl) q554 (Or.inl rfl) h22 (Nat.le_of_ble_eq_true rfl) h22v ?_
      obtain ⟨x23, h24, H⟩ := H
      refine r_getstatic (M := m_X3_lines) (pc := 18) dX3_lines_18 16 _ rfl q527 h24 ?_
      refine r_acmp_eq (M := m_X3_lines) (pc := 21) dX3_lines_21 29 (by decide) (fun hc => ?_) (fun hc => ?_)
      · replace H := f_it H hc
        refine r_aload_n (M := m_X3_lines) (pc := 29) dX3_lines_29 0 rfl rfl ?_
        obtain ⟨a26, us27, e9, h28, H⟩ := H; cases e9
        refine r_V (M := m_X3_lines) (pc := 30) dX3_lines_30 m_X3_step k_X3_step q315 q316 8 _ rfl q319 (av := []) (dy := d) n_X3_step h28 rfl (pw_c4 (Nat.le_of_ble_eq_true rfl)) (Nat.le_refl _) (H.mono (pw_nx_v (fun w25 H1 => ?_)))
        replace H := H1; clear H1
        refine r_goto (M := m_X3_lines) (pc := 33) dX3_lines_33 0 (by decide) ?_
        exact pw_weak (le_s le_0) H
      · replace H := f_if H hc
        refine r_aload_n (M := m_X3_lines) (pc := 24) dX3_lines_24 0 rfl rfl ?_
        obtain ⟨a31, us32, e9, h33, H⟩ := H; cases e9
        refine r_V (M := m_X3_lines) (pc := 25) dX3_lines_25 m_X3_wrong k_X3_wrong q617 q618 8 _ rfl q621 (av := []) (dy := d) n_X3_wrong h33 rfl (pw_c4 (Nat.le_of_ble_eq_true rfl)) (Nat.le_refl _) (H.mono (pw_nx_r (fun o30 w29 H1 => ?_)))
        replace H := H1; clear H1
        obtain ⟨q9, e9, H⟩ := H; cases e9
        exact r_athrow (M := m_X3_lines) (pc := 28) dX3_lines_28 (x_out_use rfl H)
    · replace H := H1; clear H1
      exact x_out_use rfl H
theorem s_X3_lines_k9_0 {E : pw_E} {d : Nat} {w : pw_W} {Post : pw_R → pw_W → Prop} (v0 : Option Nat) (H : f_getr w v0 9 5 (fun x1 => f_str E 12 (fun x5 => (if x1 = x5 then f_getr w v0 9 7 (fun x7 => (if x7 = none then Post (.inl none) w else f_getr w v0 9 7 (fun x11 => (∃ q9 : Nat, x11 = some q9 ∧ x_out E w q9 Post)))) else f_V E w v0 9 m_X10_line d [] (c_x (c_v (fun w15 => f_getr w15 v0 9 5 (fun x19 => f_str E 16 (fun x23 => (if x19 = x23 then f_V E w15 v0 9 m_X3_step d [] (c_v (fun w25 => pw_Wp E m_X3_lines (d + 1) 0 [some (va_rf v0)] [] w25 Post)) else f_V E w15 v0 9 m_X3_wrong d [] (c_r (fun o30 w29 => (∃ q9 : Nat, o30 = some q9 ∧ x_out E w29 q9 Post)))))))) (fun q8 w8 => x_out E w8 q8 Post)))))) : pw_Wp E m_X3_lines (d + 1) 0 [some (va_rf v0)] [] w Post := by
  refine r_aload_n (M := m_X3_lines) (pc := 0) dX3_lines_0 0 rfl rfl ?_
  obtain ⟨a2, fs3, x1, e9, h4, h4v, H⟩ := H; cases e9
  refine r_get (M := m_X3_lines) (pc := 1) dX3_lines_1 "VersionSearch$Reader" 9 5 _ rfl (Nat.le_of_ble_eq_true rfl) q554 (Or.inl rfl) h4 (Nat.le_of_ble_eq_true rfl) h4v ?_
  obtain ⟨x5, h6, H⟩ := H
  refine r_getstatic (M := m_X3_lines) (pc := 4) dX3_lines_4 12 _ rfl q326 h6 ?_
  refine r_acmp_eq (M := m_X3_lines) (pc := 7) dX3_lines_7 36 (by decide) (fun hc => ?_) (fun hc => ?_)
  · replace H := f_it H hc
    refine r_aload_n (M := m_X3_lines) (pc := 36) dX3_lines_36 0 rfl rfl ?_
    obtain ⟨a8, fs9, x7, e9, h10, h10v, H⟩ := H; cases e9
    refine r_get (M := m_X3_lines) (pc := 37) dX3_lines_37 "VersionSearch$Reader" 9 7 _ rfl (Nat.le_of_ble_eq_true rfl) q556 (Or.inl rfl) h10 (Nat.le_of_ble_eq_true rfl) h10v ?_
    refine r_ifnull (M := m_X3_lines) (pc := 40) dX3_lines_40 48 (by decide) (fun hc => ?_) (fun hc => ?_)
    · replace H := f_it H hc
      exact r_return (M := m_X3_lines) (pc := 48) dX3_lines_48 rfl H
    · replace H := f_if H hc
      refine r_aload_n (M := m_X3_lines) (pc := 43) dX3_lines_43 0 rfl rfl ?_
      obtain ⟨a12, fs13, x11, e9, h14, h14v, H⟩ := H; cases e9
      refine r_get (M := m_X3_lines) (pc := 44) dX3_lines_44 "VersionSearch$Reader" 9 7 _ rfl (Nat.le_of_ble_eq_true rfl) q556 (Or.inl rfl) h14 (Nat.le_of_ble_eq_true rfl) h14v ?_
      obtain ⟨q9, e9, H⟩ := H; cases e9
      exact r_athrow (M := m_X3_lines) (pc := 47) dX3_lines_47 (x_out_use rfl H)
  · replace H := f_if H hc
    refine r_aload_n (M := m_X3_lines) (pc := 10) dX3_lines_10 0 rfl rfl ?_
    obtain ⟨a16, us17, e9, h18, H⟩ := H; cases e9
    refine r_U (M := m_X3_lines) (pc := 11) dX3_lines_11 ⟨"VersionSearch$Reader", "line", "()V"⟩ "VersionSearch$Reader" m_X10_line k_X10_line q589 q591 q1093 9 _ rfl q1092 (Or.inl q590) ⟨by decide +kernel, by decide +kernel⟩ (av := []) (dy := d) (pw_nyl (n := 0) (by decide +kernel)) h18 rfl (pw_c4 (Nat.le_of_ble_eq_true rfl)) (Nat.le_refl _) (H.mono (pw_nx_x (pw_nx_v (fun w15 H1 => ?_)) (fun q8 w8 H1 => ?_)))
    · replace H := H1; clear H1
      refine r_aload_n (M := m_X3_lines) (pc := 14) dX3_lines_14 0 rfl rfl ?_
      obtain ⟨a20, fs21, x19, e9, h22, h22v, H⟩ := H; cases e9
      refine r_get (M := m_X3_lines) (pc := 15) dX3_lines_15 "VersionSearch$Reader" 9 5 _ rfl (Nat.le_of_ble_eq_true rfl) q554 (Or.inl rfl) h22 (Nat.le_of_ble_eq_true rfl) h22v ?_
      obtain ⟨x23, h24, H⟩ := H
      refine r_getstatic (M := m_X3_lines) (pc := 18) dX3_lines_18 16 _ rfl q527 h24 ?_
      refine r_acmp_eq (M := m_X3_lines) (pc := 21) dX3_lines_21 29 (by decide) (fun hc => ?_) (fun hc => ?_)
      · replace H := f_it H hc
        refine r_aload_n (M := m_X3_lines) (pc := 29) dX3_lines_29 0 rfl rfl ?_
        obtain ⟨a26, us27, e9, h28, H⟩ := H; cases e9
        refine r_V (M := m_X3_lines) (pc := 30) dX3_lines_30 m_X3_step k_X3_step q315 q316 9 _ rfl q320 (av := []) (dy := d) n_X3_step h28 rfl (pw_c4 (Nat.le_of_ble_eq_true rfl)) (Nat.le_refl _) (H.mono (pw_nx_v (fun w25 H1 => ?_)))
        replace H := H1; clear H1
        refine r_goto (M := m_X3_lines) (pc := 33) dX3_lines_33 0 (by decide) ?_
        exact pw_weak (le_s le_0) H
      · replace H := f_if H hc
        refine r_aload_n (M := m_X3_lines) (pc := 24) dX3_lines_24 0 rfl rfl ?_
        obtain ⟨a31, us32, e9, h33, H⟩ := H; cases e9
        refine r_V (M := m_X3_lines) (pc := 25) dX3_lines_25 m_X3_wrong k_X3_wrong q617 q618 9 _ rfl q622 (av := []) (dy := d) n_X3_wrong h33 rfl (pw_c4 (Nat.le_of_ble_eq_true rfl)) (Nat.le_refl _) (H.mono (pw_nx_r (fun o30 w29 H1 => ?_)))
        replace H := H1; clear H1
        obtain ⟨q9, e9, H⟩ := H; cases e9
        exact r_athrow (M := m_X3_lines) (pc := 28) dX3_lines_28 (x_out_use rfl H)
    · replace H := H1; clear H1
      exact x_out_use rfl H
theorem s_X3_lines_K_0 {E : pw_E} {d : Nat} {w : pw_W} {Post : pw_R → pw_W → Prop} {k : Nat} (hk : k = 3 ∨ k = 8 ∨ k = 9) (v0 : Option Nat) (H : f_getr w v0 k 5 (fun x1 => f_str E 12 (fun x5 => (if x1 = x5 then f_getr w v0 k 7 (fun x7 => (if x7 = none then Post (.inl none) w else f_getr w v0 k 7 (fun x11 => (∃ q9 : Nat, x11 = some q9 ∧ x_out E w q9 Post)))) else f_V E w v0 k (m_line k) d [] (c_x (c_v (fun w15 => f_getr w15 v0 k 5 (fun x19 => f_str E 16 (fun x23 => (if x19 = x23 then f_V E w15 v0 k m_X3_step d [] (c_v (fun w25 => pw_Wp E m_X3_lines (d + 1) 0 [some (va_rf v0)] [] w25 Post)) else f_V E w15 v0 k m_X3_wrong d [] (c_r (fun o30 w29 => (∃ q9 : Nat, o30 = some q9 ∧ x_out E w29 q9 Post)))))))) (fun q8 w8 => x_out E w8 q8 Post)))))) : pw_Wp E m_X3_lines (d + 1) 0 [some (va_rf v0)] [] w Post := by
  rcases hk with rfl | rfl | rfl
  · exact s_X3_lines_k3_0 v0 H
  · exact s_X3_lines_k8_0 v0 H
  · exact s_X3_lines_k9_0 v0 H
theorem s_X3_number_k3_0 {E : pw_E} {d : Nat} {w : pw_W} {Post : pw_R → pw_W → Prop} (v0 : Option Nat) (v1 : Int32) (v2 : Int32) (H : f_getr w v0 3 5 (fun x1 => f_str E 15 (fun x5 => (if x1 = x5 then f_geti w v0 3 4 (fun x7 => pw_Cl E m_X0_isIn d [.int x7, .int v1, .int v2] w (c_z (fun b12 w11 => (if (bI b12) = 0 then f_V E w11 v0 3 m_X3_wrongHere d [] (c_v (fun w17 => f_V E w17 v0 3 m_X3_step d [] (c_v (fun w21 => (if (bI b12) = 0 then Post (.inl (some (.int v1))) w21 else Post (.inl (some (.int x7))) w21))))) else f_V E w11 v0 3 m_X3_step d [] (c_v (fun w13 => (if (bI b12) = 0 then Post (.inl (some (.int v1))) w13 else Post (.inl (some (.int x7))) w13))))))) else f_V E w v0 3 m_X3_wrong d [] (c_r (fun o26 w25 => (∃ q9 : Nat, o26 = some q9 ∧ x_out E w25 q9 Post))))))) : pw_Wp E m_X3_number (d + 1) 0 [some (va_rf v0), some (.int v1), some (.int v2), none, none] [] w Post := by
  refine r_aload_n (M := m_X3_number) (pc := 0) dX3_number_0 0 rfl rfl ?_
  obtain ⟨a2, fs3, x1, e9, h4, h4v, H⟩ := H; cases e9
  refine r_get (M := m_X3_number) (pc := 1) dX3_number_1 "VersionSearch$Reader" 3 5 _ rfl (Nat.le_of_ble_eq_true rfl) q554 (Or.inl rfl) h4 (Nat.le_of_ble_eq_true rfl) h4v ?_
  obtain ⟨x5, h6, H⟩ := H
  refine r_getstatic (M := m_X3_number) (pc := 4) dX3_number_4 15 _ rfl q525 h6 ?_
  refine r_acmp_eq (M := m_X3_number) (pc := 7) dX3_number_7 15 (by decide) (fun hc => ?_) (fun hc => ?_)
  · replace H := f_it H hc
    refine r_aload_n (M := m_X3_number) (pc := 15) dX3_number_15 0 rfl rfl ?_
    obtain ⟨a8, fs9, x7, e9, h10, h10v, H⟩ := H; cases e9
    refine r_get (M := m_X3_number) (pc := 16) dX3_number_16 "VersionSearch$Reader" 3 4 _ rfl (Nat.le_of_ble_eq_true rfl) q553 (Or.inl rfl) h10 (Nat.le_of_ble_eq_true rfl) h10v ?_
    refine r_istore_n (M := m_X3_number) (pc := 19) dX3_number_19 3 rfl (Nat.le_of_ble_eq_true rfl) rfl ?_
    refine r_iload_n (M := m_X3_number) (pc := 20) dX3_number_20 3 rfl rfl ?_
    refine r_iload_n (M := m_X3_number) (pc := 21) dX3_number_21 1 rfl rfl ?_
    refine r_iload_n (M := m_X3_number) (pc := 22) dX3_number_22 2 rfl rfl ?_
    refine r_SN (M := m_X3_number) (pc := 23) dX3_number_23 "VersionSearch" m_X0_isIn k_X0_isIn q1022 q288 (av := [.int _, .int _, .int _]) (dy := d) n_X0_isIn rfl (pw_c4 (Nat.le_of_ble_eq_true rfl)) (Nat.le_refl _) (H.mono (pw_nx_z (fun b12 w11 H1 => ?_)))
    replace H := H1; clear H1
    refine r_istore (M := m_X3_number) (pc := 26) dX3_number_26 (Nat.le_of_ble_eq_true rfl) rfl ?_
    refine r_iload (M := m_X3_number) (pc := 28) dX3_number_28 rfl ?_
    refine r_if_ne (M := m_X3_number) (pc := 30) dX3_number_30 37 (by decide) (fun hc => ?_) (fun hc => ?_)
    · replace H := f_if H hc
      refine r_aload_n (M := m_X3_number) (pc := 37) dX3_number_37 0 rfl rfl ?_
      obtain ⟨a14, us15, e9, h16, H⟩ := H; cases e9
      refine r_V (M := m_X3_number) (pc := 38) dX3_number_38 m_X3_step k_X3_step q315 q316 3 _ rfl q318 (av := []) (dy := d) n_X3_step h16 rfl (pw_c4 (Nat.le_of_ble_eq_true rfl)) (Nat.le_refl _) (H.mono (pw_nx_v (fun w13 H1 => ?_)))
      replace H := H1; clear H1
      refine r_iload (M := m_X3_number) (pc := 41) dX3_number_41 rfl ?_
      refine r_if_eq (M := m_X3_number) (pc := 43) dX3_number_43 50 (by decide) (fun hc => ?_) (fun hc => ?_)
      · replace H := f_it H hc
        refine r_iload_n (M := m_X3_number) (pc := 50) dX3_number_50 1 rfl rfl ?_
        exact r_ireturn (M := m_X3_number) (pc := 51) dX3_number_51 rfl H
      · replace H := f_if H hc
        refine r_iload_n (M := m_X3_number) (pc := 46) dX3_number_46 3 rfl rfl ?_
        refine r_goto (M := m_X3_number) (pc := 47) dX3_number_47 51 (by decide) ?_
        exact r_ireturn (M := m_X3_number) (pc := 51) dX3_number_51 rfl H
    · replace H := f_it H hc
      refine r_aload_n (M := m_X3_number) (pc := 33) dX3_number_33 0 rfl rfl ?_
      obtain ⟨a18, us19, e9, h20, H⟩ := H; cases e9
      refine r_P (M := m_X3_number) (pc := 34) dX3_number_34 m_X3_wrongHere k_X3_wrongHere q760 q762 q318 rfl q761 3 _ rfl (av := []) (dy := d) n_X3_wrongHere h20 rfl (pw_c4 (Nat.le_of_ble_eq_true rfl)) (Nat.le_refl _) (H.mono (pw_nx_v (fun w17 H1 => ?_)))
      replace H := H1; clear H1
      refine r_aload_n (M := m_X3_number) (pc := 37) dX3_number_37 0 rfl rfl ?_
      obtain ⟨a22, us23, e9, h24, H⟩ := H; cases e9
      refine r_V (M := m_X3_number) (pc := 38) dX3_number_38 m_X3_step k_X3_step q315 q316 3 _ rfl q318 (av := []) (dy := d) n_X3_step h24 rfl (pw_c4 (Nat.le_of_ble_eq_true rfl)) (Nat.le_refl _) (H.mono (pw_nx_v (fun w21 H1 => ?_)))
      replace H := H1; clear H1
      refine r_iload (M := m_X3_number) (pc := 41) dX3_number_41 rfl ?_
      refine r_if_eq (M := m_X3_number) (pc := 43) dX3_number_43 50 (by decide) (fun hc => ?_) (fun hc => ?_)
      · replace H := f_it H hc
        refine r_iload_n (M := m_X3_number) (pc := 50) dX3_number_50 1 rfl rfl ?_
        exact r_ireturn (M := m_X3_number) (pc := 51) dX3_number_51 rfl H
      · replace H := f_if H hc
        refine r_iload_n (M := m_X3_number) (pc := 46) dX3_number_46 3 rfl rfl ?_
        refine r_goto (M := m_X3_number) (pc := 47) dX3_number_47 51 (by decide) ?_
        exact r_ireturn (M := m_X3_number) (pc := 51) dX3_number_51 rfl H
  · replace H := f_if H hc
    refine r_aload_n (M := m_X3_number) (pc := 10) dX3_number_10 0 rfl rfl ?_
    obtain ⟨a27, us28, e9, h29, H⟩ := H; cases e9
    refine r_V (M := m_X3_number) (pc := 11) dX3_number_11 m_X3_wrong k_X3_wrong q617 q618 3 _ rfl q620 (av := []) (dy := d) n_X3_wrong h29 rfl (pw_c4 (Nat.le_of_ble_eq_true rfl)) (Nat.le_refl _) (H.mono (pw_nx_r (fun o26 w25 H1 => ?_)))
    replace H := H1; clear H1
    obtain ⟨q9, e9, H⟩ := H; cases e9
    exact r_athrow (M := m_X3_number) (pc := 14) dX3_number_14 (x_out_use rfl H)
theorem s_X3_number_k8_0 {E : pw_E} {d : Nat} {w : pw_W} {Post : pw_R → pw_W → Prop} (v0 : Option Nat) (v1 : Int32) (v2 : Int32) (H : f_getr w v0 8 5 (fun x1 => f_str E 15 (fun x5 => (if x1 = x5 then f_geti w v0 8 4 (fun x7 => pw_Cl E m_X0_isIn d [.int x7, .int v1, .int v2] w (c_z (fun b12 w11 => (if (bI b12) = 0 then f_V E w11 v0 8 m_X3_wrongHere d [] (c_v (fun w17 => f_V E w17 v0 8 m_X3_step d [] (c_v (fun w21 => (if (bI b12) = 0 then Post (.inl (some (.int v1))) w21 else Post (.inl (some (.int x7))) w21))))) else f_V E w11 v0 8 m_X3_step d [] (c_v (fun w13 => (if (bI b12) = 0 then Post (.inl (some (.int v1))) w13 else Post (.inl (some (.int x7))) w13))))))) else f_V E w v0 8 m_X3_wrong d [] (c_r (fun o26 w25 => (∃ q9 : Nat, o26 = some q9 ∧ x_out E w25 q9 Post))))))) : pw_Wp E m_X3_number (d + 1) 0 [some (va_rf v0), some (.int v1), some (.int v2), none, none] [] w Post := by
  refine r_aload_n (M := m_X3_number) (pc := 0) dX3_number_0 0 rfl rfl ?_
  obtain ⟨a2, fs3, x1, e9, h4, h4v, H⟩ := H; cases e9
  refine r_get (M := m_X3_number) (pc := 1) dX3_number_1 "VersionSearch$Reader" 8 5 _ rfl (Nat.le_of_ble_eq_true rfl) q554 (Or.inl rfl) h4 (Nat.le_of_ble_eq_true rfl) h4v ?_
  obtain ⟨x5, h6, H⟩ := H
  refine r_getstatic (M := m_X3_number) (pc := 4) dX3_number_4 15 _ rfl q525 h6 ?_
  refine r_acmp_eq (M := m_X3_number) (pc := 7) dX3_number_7 15 (by decide) (fun hc => ?_) (fun hc => ?_)
  · replace H := f_it H hc
    refine r_aload_n (M := m_X3_number) (pc := 15) dX3_number_15 0 rfl rfl ?_
    obtain ⟨a8, fs9, x7, e9, h10, h10v, H⟩ := H; cases e9
    refine r_get (M := m_X3_number) (pc := 16) dX3_number_16 "VersionSearch$Reader" 8 4 _ rfl (Nat.le_of_ble_eq_true rfl) q553 (Or.inl rfl) h10 (Nat.le_of_ble_eq_true rfl) h10v ?_
    refine r_istore_n (M := m_X3_number) (pc := 19) dX3_number_19 3 rfl (Nat.le_of_ble_eq_true rfl) rfl ?_
    refine r_iload_n (M := m_X3_number) (pc := 20) dX3_number_20 3 rfl rfl ?_
    refine r_iload_n (M := m_X3_number) (pc := 21) dX3_number_21 1 rfl rfl ?_
    refine r_iload_n (M := m_X3_number) (pc := 22) dX3_number_22 2 rfl rfl ?_
    refine r_SN (M := m_X3_number) (pc := 23) dX3_number_23 "VersionSearch" m_X0_isIn k_X0_isIn q1022 q288 (av := [.int _, .int _, .int _]) (dy := d) n_X0_isIn rfl (pw_c4 (Nat.le_of_ble_eq_true rfl)) (Nat.le_refl _) (H.mono (pw_nx_z (fun b12 w11 H1 => ?_)))
    replace H := H1; clear H1
    refine r_istore (M := m_X3_number) (pc := 26) dX3_number_26 (Nat.le_of_ble_eq_true rfl) rfl ?_
    refine r_iload (M := m_X3_number) (pc := 28) dX3_number_28 rfl ?_
    refine r_if_ne (M := m_X3_number) (pc := 30) dX3_number_30 37 (by decide) (fun hc => ?_) (fun hc => ?_)
    · replace H := f_if H hc
      refine r_aload_n (M := m_X3_number) (pc := 37) dX3_number_37 0 rfl rfl ?_
      obtain ⟨a14, us15, e9, h16, H⟩ := H; cases e9
      refine r_V (M := m_X3_number) (pc := 38) dX3_number_38 m_X3_step k_X3_step q315 q316 8 _ rfl q319 (av := []) (dy := d) n_X3_step h16 rfl (pw_c4 (Nat.le_of_ble_eq_true rfl)) (Nat.le_refl _) (H.mono (pw_nx_v (fun w13 H1 => ?_)))
      replace H := H1; clear H1
      refine r_iload (M := m_X3_number) (pc := 41) dX3_number_41 rfl ?_
      refine r_if_eq (M := m_X3_number) (pc := 43) dX3_number_43 50 (by decide) (fun hc => ?_) (fun hc => ?_)
      · replace H := f_it H hc
        refine r_iload_n (M := m_X3_number) (pc := 50) dX3_number_50 1 rfl rfl ?_
        exact r_ireturn (M := m_X3_number) (pc := 51) dX3_number_51 rfl H
      · replace H := f_if H hc
        refine r_iload_n (M := m_X3_number) (pc := 46) dX3_number_46 3 rfl rfl ?_
        refine r_goto (M := m_X3_number) (pc := 47) dX3_number_47 51 (by decide) ?_
        exact r_ireturn (M := m_X3_number) (pc := 51) dX3_number_51 rfl H
    · replace H := f_it H hc
      refine r_aload_n (M := m_X3_number) (pc := 33) dX3_number_33 0 rfl rfl ?_
      obtain ⟨a18, us19, e9, h20, H⟩ := H; cases e9
      refine r_P (M := m_X3_number) (pc := 34) dX3_number_34 m_X3_wrongHere k_X3_wrongHere q760 q762 q318 rfl q761 8 _ rfl (av := []) (dy := d) n_X3_wrongHere h20 rfl (pw_c4 (Nat.le_of_ble_eq_true rfl)) (Nat.le_refl _) (H.mono (pw_nx_v (fun w17 H1 => ?_)))
      replace H := H1; clear H1
      refine r_aload_n (M := m_X3_number) (pc := 37) dX3_number_37 0 rfl rfl ?_
      obtain ⟨a22, us23, e9, h24, H⟩ := H; cases e9
      refine r_V (M := m_X3_number) (pc := 38) dX3_number_38 m_X3_step k_X3_step q315 q316 8 _ rfl q319 (av := []) (dy := d) n_X3_step h24 rfl (pw_c4 (Nat.le_of_ble_eq_true rfl)) (Nat.le_refl _) (H.mono (pw_nx_v (fun w21 H1 => ?_)))
      replace H := H1; clear H1
      refine r_iload (M := m_X3_number) (pc := 41) dX3_number_41 rfl ?_
      refine r_if_eq (M := m_X3_number) (pc := 43) dX3_number_43 50 (by decide) (fun hc => ?_) (fun hc => ?_)
      · replace H := f_it H hc
        refine r_iload_n (M := m_X3_number) (pc := 50) dX3_number_50 1 rfl rfl ?_
        exact r_ireturn (M := m_X3_number) (pc := 51) dX3_number_51 rfl H
      · replace H := f_if H hc
        refine r_iload_n (M := m_X3_number) (pc := 46) dX3_number_46 3 rfl rfl ?_
        refine r_goto (M := m_X3_number) (pc := 47) dX3_number_47 51 (by decide) ?_
        exact r_ireturn (M := m_X3_number) (pc := 51) dX3_number_51 rfl H
  · replace H := f_if H hc
    refine r_aload_n (M := m_X3_number) (pc := 10) dX3_number_10 0 rfl rfl ?_
    obtain ⟨a27, us28, e9, h29, H⟩ := H; cases e9
    refine r_V (M := m_X3_number) (pc := 11) dX3_number_11 m_X3_wrong k_X3_wrong q617 q618 8 _ rfl q621 (av := []) (dy := d) n_X3_wrong h29 rfl (pw_c4 (Nat.le_of_ble_eq_true rfl)) (Nat.le_refl _) (H.mono (pw_nx_r (fun o26 w25 H1 => ?_)))
    replace H := H1; clear H1
    obtain ⟨q9, e9, H⟩ := H; cases e9
    exact r_athrow (M := m_X3_number) (pc := 14) dX3_number_14 (x_out_use rfl H)
theorem s_X3_number_k9_0 {E : pw_E} {d : Nat} {w : pw_W} {Post : pw_R → pw_W → Prop} (v0 : Option Nat) (v1 : Int32) (v2 : Int32) (H : f_getr w v0 9 5 (fun x1 => f_str E 15 (fun x5 => (if x1 = x5 then f_geti w v0 9 4 (fun x7 => pw_Cl E m_X0_isIn d [.int x7, .int v1, .int v2] w (c_z (fun b12 w11 => (if (bI b12) = 0 then f_V E w11 v0 9 m_X3_wrongHere d [] (c_v (fun w17 => f_V E w17 v0 9 m_X3_step d [] (c_v (fun w21 => (if (bI b12) = 0 then Post (.inl (some (.int v1))) w21 else Post (.inl (some (.int x7))) w21))))) else f_V E w11 v0 9 m_X3_step d [] (c_v (fun w13 => (if (bI b12) = 0 then Post (.inl (some (.int v1))) w13 else Post (.inl (some (.int x7))) w13))))))) else f_V E w v0 9 m_X3_wrong d [] (c_r (fun o26 w25 => (∃ q9 : Nat, o26 = some q9 ∧ x_out E w25 q9 Post))))))) : pw_Wp E m_X3_number (d + 1) 0 [some (va_rf v0), some (.int v1), some (.int v2), none, none] [] w Post := by
  refine r_aload_n (M := m_X3_number) (pc := 0) dX3_number_0 0 rfl rfl ?_
  obtain ⟨a2, fs3, x1, e9, h4, h4v, H⟩ := H; cases e9
  refine r_get (M := m_X3_number) (pc := 1) dX3_number_1 "VersionSearch$Reader" 9 5 _ rfl (Nat.le_of_ble_eq_true rfl) q554 (Or.inl rfl) h4 (Nat.le_of_ble_eq_true rfl) h4v ?_
  obtain ⟨x5, h6, H⟩ := H
  refine r_getstatic (M := m_X3_number) (pc := 4) dX3_number_4 15 _ rfl q525 h6 ?_
  refine r_acmp_eq (M := m_X3_number) (pc := 7) dX3_number_7 15 (by decide) (fun hc => ?_) (fun hc => ?_)
  · replace H := f_it H hc
    refine r_aload_n (M := m_X3_number) (pc := 15) dX3_number_15 0 rfl rfl ?_
    obtain ⟨a8, fs9, x7, e9, h10, h10v, H⟩ := H; cases e9
    refine r_get (M := m_X3_number) (pc := 16) dX3_number_16 "VersionSearch$Reader" 9 4 _ rfl (Nat.le_of_ble_eq_true rfl) q553 (Or.inl rfl) h10 (Nat.le_of_ble_eq_true rfl) h10v ?_
    refine r_istore_n (M := m_X3_number) (pc := 19) dX3_number_19 3 rfl (Nat.le_of_ble_eq_true rfl) rfl ?_
    refine r_iload_n (M := m_X3_number) (pc := 20) dX3_number_20 3 rfl rfl ?_
    refine r_iload_n (M := m_X3_number) (pc := 21) dX3_number_21 1 rfl rfl ?_
    refine r_iload_n (M := m_X3_number) (pc := 22) dX3_number_22 2 rfl rfl ?_
    refine r_SN (M := m_X3_number) (pc := 23) dX3_number_23 "VersionSearch" m_X0_isIn k_X0_isIn q1022 q288 (av := [.int _, .int _, .int _]) (dy := d) n_X0_isIn rfl (pw_c4 (Nat.le_of_ble_eq_true rfl)) (Nat.le_refl _) (H.mono (pw_nx_z (fun b12 w11 H1 => ?_)))
    replace H := H1; clear H1
    refine r_istore (M := m_X3_number) (pc := 26) dX3_number_26 (Nat.le_of_ble_eq_true rfl) rfl ?_
    refine r_iload (M := m_X3_number) (pc := 28) dX3_number_28 rfl ?_
    refine r_if_ne (M := m_X3_number) (pc := 30) dX3_number_30 37 (by decide) (fun hc => ?_) (fun hc => ?_)
    · replace H := f_if H hc
      refine r_aload_n (M := m_X3_number) (pc := 37) dX3_number_37 0 rfl rfl ?_
      obtain ⟨a14, us15, e9, h16, H⟩ := H; cases e9
      refine r_V (M := m_X3_number) (pc := 38) dX3_number_38 m_X3_step k_X3_step q315 q316 9 _ rfl q320 (av := []) (dy := d) n_X3_step h16 rfl (pw_c4 (Nat.le_of_ble_eq_true rfl)) (Nat.le_refl _) (H.mono (pw_nx_v (fun w13 H1 => ?_)))
      replace H := H1; clear H1
      refine r_iload (M := m_X3_number) (pc := 41) dX3_number_41 rfl ?_
      refine r_if_eq (M := m_X3_number) (pc := 43) dX3_number_43 50 (by decide) (fun hc => ?_) (fun hc => ?_)
      · replace H := f_it H hc
        refine r_iload_n (M := m_X3_number) (pc := 50) dX3_number_50 1 rfl rfl ?_
        exact r_ireturn (M := m_X3_number) (pc := 51) dX3_number_51 rfl H
      · replace H := f_if H hc
        refine r_iload_n (M := m_X3_number) (pc := 46) dX3_number_46 3 rfl rfl ?_
        refine r_goto (M := m_X3_number) (pc := 47) dX3_number_47 51 (by decide) ?_
        exact r_ireturn (M := m_X3_number) (pc := 51) dX3_number_51 rfl H
    · replace H := f_it H hc
      refine r_aload_n (M := m_X3_number) (pc := 33) dX3_number_33 0 rfl rfl ?_
      obtain ⟨a18, us19, e9, h20, H⟩ := H; cases e9
      refine r_P (M := m_X3_number) (pc := 34) dX3_number_34 m_X3_wrongHere k_X3_wrongHere q760 q762 q318 rfl q761 9 _ rfl (av := []) (dy := d) n_X3_wrongHere h20 rfl (pw_c4 (Nat.le_of_ble_eq_true rfl)) (Nat.le_refl _) (H.mono (pw_nx_v (fun w17 H1 => ?_)))
      replace H := H1; clear H1
      refine r_aload_n (M := m_X3_number) (pc := 37) dX3_number_37 0 rfl rfl ?_
      obtain ⟨a22, us23, e9, h24, H⟩ := H; cases e9
      refine r_V (M := m_X3_number) (pc := 38) dX3_number_38 m_X3_step k_X3_step q315 q316 9 _ rfl q320 (av := []) (dy := d) n_X3_step h24 rfl (pw_c4 (Nat.le_of_ble_eq_true rfl)) (Nat.le_refl _) (H.mono (pw_nx_v (fun w21 H1 => ?_)))
      replace H := H1; clear H1
      refine r_iload (M := m_X3_number) (pc := 41) dX3_number_41 rfl ?_
      refine r_if_eq (M := m_X3_number) (pc := 43) dX3_number_43 50 (by decide) (fun hc => ?_) (fun hc => ?_)
      · replace H := f_it H hc
        refine r_iload_n (M := m_X3_number) (pc := 50) dX3_number_50 1 rfl rfl ?_
        exact r_ireturn (M := m_X3_number) (pc := 51) dX3_number_51 rfl H
      · replace H := f_if H hc
        refine r_iload_n (M := m_X3_number) (pc := 46) dX3_number_46 3 rfl rfl ?_
        refine r_goto (M := m_X3_number) (pc := 47) dX3_number_47 51 (by decide) ?_
        exact r_ireturn (M := m_X3_number) (pc := 51) dX3_number_51 rfl H
  · replace H := f_if H hc
    refine r_aload_n (M := m_X3_number) (pc := 10) dX3_number_10 0 rfl rfl ?_
    obtain ⟨a27, us28, e9, h29, H⟩ := H; cases e9
    refine r_V (M := m_X3_number) (pc := 11) dX3_number_11 m_X3_wrong k_X3_wrong q617 q618 9 _ rfl q622 (av := []) (dy := d) n_X3_wrong h29 rfl (pw_c4 (Nat.le_of_ble_eq_true rfl)) (Nat.le_refl _) (H.mono (pw_nx_r (fun o26 w25 H1 => ?_)))
    replace H := H1; clear H1
    obtain ⟨q9, e9, H⟩ := H; cases e9
    exact r_athrow (M := m_X3_number) (pc := 14) dX3_number_14 (x_out_use rfl H)
theorem s_X3_number_K_0 {E : pw_E} {d : Nat} {w : pw_W} {Post : pw_R → pw_W → Prop} {k : Nat} (hk : k = 3 ∨ k = 8 ∨ k = 9) (v0 : Option Nat) (v1 : Int32) (v2 : Int32) (H : f_getr w v0 k 5 (fun x1 => f_str E 15 (fun x5 => (if x1 = x5 then f_geti w v0 k 4 (fun x7 => pw_Cl E m_X0_isIn d [.int x7, .int v1, .int v2] w (c_z (fun b12 w11 => (if (bI b12) = 0 then f_V E w11 v0 k m_X3_wrongHere d [] (c_v (fun w17 => f_V E w17 v0 k m_X3_step d [] (c_v (fun w21 => (if (bI b12) = 0 then Post (.inl (some (.int v1))) w21 else Post (.inl (some (.int x7))) w21))))) else f_V E w11 v0 k m_X3_step d [] (c_v (fun w13 => (if (bI b12) = 0 then Post (.inl (some (.int v1))) w13 else Post (.inl (some (.int x7))) w13))))))) else f_V E w v0 k m_X3_wrong d [] (c_r (fun o26 w25 => (∃ q9 : Nat, o26 = some q9 ∧ x_out E w25 q9 Post))))))) : pw_Wp E m_X3_number (d + 1) 0 [some (va_rf v0), some (.int v1), some (.int v2), none, none] [] w Post := by
  rcases hk with rfl | rfl | rfl
  · exact s_X3_number_k3_0 v0 v1 v2 H
  · exact s_X3_number_k8_0 v0 v1 v2 H
  · exact s_X3_number_k9_0 v0 v1 v2 H
theorem s_X3_step_k3_0 {E : pw_E} {d : Nat} {w : pw_W} {Post : pw_R → pw_W → Prop} (v0 : Option Nat) (H : f_geti w v0 3 2 (fun x1 => f_V E w v0 3 m_X3_at d [.int x1] (c_i (fun x6 w5 => (if x6 = 10 then f_geti w5 v0 3 2 (fun x10 => f_put E w5 v0 3 2 (.int (x10 + 1)) (fun w17 => pw_Wp E m_X3_step (d + 1) 0 [some (va_rf v0), none, none] [] w17 Post)) else f_geti w5 v0 3 2 (fun x18 => f_V E w5 v0 3 m_X3_at d [.int x18] (c_i (fun x23 w22 => (if x23 = 32 then f_geti w22 v0 3 2 (fun x80 => f_put E w22 v0 3 2 (.int (x80 + 1)) (fun w87 => pw_Wp E m_X3_step (d + 1) 0 [some (va_rf v0), none, none] [] w87 Post)) else f_geti w22 v0 3 2 (fun x27 => f_put E w22 v0 3 3 (.int x27) (fun w34 => f_geti w34 v0 3 2 (fun x35 => f_V E w34 v0 3 m_X3_at d [.int x35] (c_i (fun x40 w39 => (if x40 = (-1) then f_str E 12 (fun x74 => f_put E w39 v0 3 5 (va_rf x74) (fun w79 => Post (.inl none) w79)) else pw_Cl E m_X3_isLetter d [.int x40] w39 (c_z (fun b45 w44 => (if (bI b45) = 0 then pw_Cl E m_X3_isDigit d [.int x40] w44 (c_z (fun b47 w46 => (if (bI b47) = 0 then f_geti w46 v0 3 2 (fun x48 => f_put E w46 v0 3 2 (.int (x48 + 1)) (fun w55 => (if x40 = 59 then f_str E 16 (fun x62 => f_put E w55 v0 3 5 (va_rf x62) (fun w67 => Post (.inl none) w67)) else f_str E 14 (fun x56 => f_put E w55 v0 3 5 (va_rf x56) (fun w61 => Post (.inl none) w61))))) else f_put E w46 v0 3 4 (.int 0) (fun w71 => pw_Wp E m_X3_step (d + 1) 168 [some (va_rf v0), none, none] [] w71 Post)))) else (fun w72 => pw_Cl E m_J5_init d (va_rf (some w44.2.1) :: [.int 8]) w72 (c_v (fun w73 => pw_Wp E m_X3_step (d + 1) 88 [some (va_rf v0), none, some (va_rf (some w44.2.1))] [] w73 Post))) (pw_new w44 (20, [va_rf none, .int 0, .int 0, .int 0]) 4))))))))))))))))))) : pw_Wp E m_X3_step (d + 1) 0 [some (va_rf v0), none, none] [] w Post := by
  refine r_aload_n (M := m_X3_step) (pc := 0) dX3_step_0 0 rfl rfl ?_
  refine r_aload_n (M := m_X3_step) (pc := 1) dX3_step_1 0 rfl rfl ?_
  obtain ⟨a2, fs3, x1, e9, h4, h4v, H⟩ := H; cases e9
  refine r_get (M := m_X3_step) (pc := 2) dX3_step_2 "VersionSearch$Reader" 3 2 _ rfl (Nat.le_of_ble_eq_true rfl) q551 (Or.inl rfl) h4 (Nat.le_of_ble_eq_true rfl) h4v ?_
  obtain ⟨a7, us8, e9, h9, H⟩ := H; cases e9
  refine r_P (M := m_X3_step) (pc := 5) dX3_step_5 m_X3_at k_X3_at q322 q324 q318 rfl q323 3 _ rfl (av := [.int _]) (dy := d) n_X3_at h9 rfl (pw_c4 (Nat.le_of_ble_eq_true rfl)) (Nat.le_refl _) (H.mono (pw_nx_i (fun x6 w5 H1 => ?_)))
  replace H := H1; clear H1
  refine r_bipush (M := m_X3_step) (pc := 8) dX3_step_8 10 rfl ?_
  refine r_icmp_eq (M := m_X3_step) (pc := 10) dX3_step_10 26 (by decide) (fun hc => ?_) (fun hc => ?_)
  · replace H := f_it H hc
    refine r_aload_n (M := m_X3_step) (pc := 26) dX3_step_26 0 rfl rfl ?_
    refine r_dup (M := m_X3_step) (pc := 27) dX3_step_27 (pw_cat_rf _) ?_
    obtain ⟨a11, fs12, x10, e9, h13, h13v, H⟩ := H; cases e9
    refine r_get (M := m_X3_step) (pc := 28) dX3_step_28 "VersionSearch$Reader" 3 2 _ rfl (Nat.le_of_ble_eq_true rfl) q551 (Or.inl rfl) h13 (Nat.le_of_ble_eq_true rfl) h13v ?_
    refine r_iconst (M := m_X3_step) (pc := 31) dX3_step_31 1 rfl ?_
    refine r_iadd (M := m_X3_step) (pc := 32) dX3_step_32 ?_
    obtain ⟨a14, fs15, e9, h16, h16b, H⟩ := H; cases e9
    refine r_put (M := m_X3_step) (pc := 33) dX3_step_33 "VersionSearch$Reader" 3 2 _ rfl (Nat.le_of_ble_eq_true rfl) q551 (Or.inl rfl) rfl h16 (Nat.le_of_ble_eq_true rfl) h16b rfl rfl ?_
    refine r_goto (M := m_X3_step) (pc := 36) dX3_step_36 0 (by decide) ?_
    exact pw_weak (le_s (le_n (le_n le_0))) H
  · replace H := f_if H hc
    refine r_aload_n (M := m_X3_step) (pc := 13) dX3_step_13 0 rfl rfl ?_
    refine r_aload_n (M := m_X3_step) (pc := 14) dX3_step_14 0 rfl rfl ?_
    obtain ⟨a19, fs20, x18, e9, h21, h21v, H⟩ := H; cases e9
    refine r_get (M := m_X3_step) (pc := 15) dX3_step_15 "VersionSearch$Reader" 3 2 _ rfl (Nat.le_of_ble_eq_true rfl) q551 (Or.inl rfl) h21 (Nat.le_of_ble_eq_true rfl) h21v ?_
    obtain ⟨a24, us25, e9, h26, H⟩ := H; cases e9
    refine r_P (M := m_X3_step) (pc := 18) dX3_step_18 m_X3_at k_X3_at q322 q324 q318 rfl q323 3 _ rfl (av := [.int _]) (dy := d) n_X3_at h26 rfl (pw_c4 (Nat.le_of_ble_eq_true rfl)) (Nat.le_refl _) (H.mono (pw_nx_i (fun x23 w22 H1 => ?_)))
    replace H := H1; clear H1
    refine r_bipush (M := m_X3_step) (pc := 21) dX3_step_21 32 rfl ?_
    refine r_icmp_ne (M := m_X3_step) (pc := 23) dX3_step_23 39 (by decide) (fun hc => ?_) (fun hc => ?_)
    · replace H := f_if H hc
      refine r_aload_n (M := m_X3_step) (pc := 39) dX3_step_39 0 rfl rfl ?_
      refine r_aload_n (M := m_X3_step) (pc := 40) dX3_step_40 0 rfl rfl ?_
      obtain ⟨a28, fs29, x27, e9, h30, h30v, H⟩ := H; cases e9
      refine r_get (M := m_X3_step) (pc := 41) dX3_step_41 "VersionSearch$Reader" 3 2 _ rfl (Nat.le_of_ble_eq_true rfl) q551 (Or.inl rfl) h30 (Nat.le_of_ble_eq_true rfl) h30v ?_
      obtain ⟨a31, fs32, e9, h33, h33b, H⟩ := H; cases e9
      refine r_put (M := m_X3_step) (pc := 44) dX3_step_44 "VersionSearch$Reader" 3 3 _ rfl (Nat.le_of_ble_eq_true rfl) q552 (Or.inl rfl) rfl h33 (Nat.le_of_ble_eq_true rfl) h33b rfl rfl ?_
      refine r_aload_n (M := m_X3_step) (pc := 47) dX3_step_47 0 rfl rfl ?_
      refine r_aload_n (M := m_X3_step) (pc := 48) dX3_step_48 0 rfl rfl ?_
      obtain ⟨a36, fs37, x35, e9, h38, h38v, H⟩ := H; cases e9
      refine r_get (M := m_X3_step) (pc := 49) dX3_step_49 "VersionSearch$Reader" 3 2 _ rfl (Nat.le_of_ble_eq_true rfl) q551 (Or.inl rfl) h38 (Nat.le_of_ble_eq_true rfl) h38v ?_
      obtain ⟨a41, us42, e9, h43, H⟩ := H; cases e9
      refine r_P (M := m_X3_step) (pc := 52) dX3_step_52 m_X3_at k_X3_at q322 q324 q318 rfl q323 3 _ rfl (av := [.int _]) (dy := d) n_X3_at h43 rfl (pw_c4 (Nat.le_of_ble_eq_true rfl)) (Nat.le_refl _) (H.mono (pw_nx_i (fun x40 w39 H1 => ?_)))
      replace H := H1; clear H1
      refine r_istore_n (M := m_X3_step) (pc := 55) dX3_step_55 1 rfl (Nat.le_of_ble_eq_true rfl) (pw_pre_rf rfl) ?_
      refine r_iload_n (M := m_X3_step) (pc := 56) dX3_step_56 1 rfl rfl ?_
      refine r_iconst (M := m_X3_step) (pc := 57) dX3_step_57 (-1) rfl ?_
      refine r_icmp_ne (M := m_X3_step) (pc := 58) dX3_step_58 71 (by decide) (fun hc => ?_) (fun hc => ?_)
      · replace H := f_if H hc
        refine r_iload_n (M := m_X3_step) (pc := 71) dX3_step_71 1 rfl rfl ?_
        refine r_S (M := m_X3_step) (pc := 72) dX3_step_72 m_X3_isLetter k_X3_isLetter q328 q329 (av := [.int _]) (dy := d) n_X3_isLetter rfl (pw_c4 (Nat.le_of_ble_eq_true rfl)) (Nat.le_refl _) (H.mono (pw_nx_z (fun b45 w44 H1 => ?_)))
        replace H := H1; clear H1
        refine r_if_eq (M := m_X3_step) (pc := 75) dX3_step_75 156 (by decide) (fun hc => ?_) (fun hc => ?_)
        · replace H := f_it H hc
          refine r_iload_n (M := m_X3_step) (pc := 156) dX3_step_156 1 rfl rfl ?_
          refine r_S (M := m_X3_step) (pc := 157) dX3_step_157 m_X3_isDigit k_X3_isDigit q520 q521 (av := [.int _]) (dy := d) n_X3_isDigit rfl (pw_c4 (Nat.le_of_ble_eq_true rfl)) (Nat.le_refl _) (H.mono (pw_nx_z (fun b47 w46 H1 => ?_)))
          replace H := H1; clear H1
          refine r_if_eq (M := m_X3_step) (pc := 160) dX3_step_160 260 (by decide) (fun hc => ?_) (fun hc => ?_)
          · replace H := f_it H hc
            refine r_aload_n (M := m_X3_step) (pc := 260) dX3_step_260 0 rfl rfl ?_
            refine r_dup (M := m_X3_step) (pc := 261) dX3_step_261 (pw_cat_rf _) ?_
            obtain ⟨a49, fs50, x48, e9, h51, h51v, H⟩ := H; cases e9
            refine r_get (M := m_X3_step) (pc := 262) dX3_step_262 "VersionSearch$Reader" 3 2 _ rfl (Nat.le_of_ble_eq_true rfl) q551 (Or.inl rfl) h51 (Nat.le_of_ble_eq_true rfl) h51v ?_
            refine r_iconst (M := m_X3_step) (pc := 265) dX3_step_265 1 rfl ?_
            refine r_iadd (M := m_X3_step) (pc := 266) dX3_step_266 ?_
            obtain ⟨a52, fs53, e9, h54, h54b, H⟩ := H; cases e9
            refine r_put (M := m_X3_step) (pc := 267) dX3_step_267 "VersionSearch$Reader" 3 2 _ rfl (Nat.le_of_ble_eq_true rfl) q551 (Or.inl rfl) rfl h54 (Nat.le_of_ble_eq_true rfl) h54b rfl rfl ?_
            refine r_aload_n (M := m_X3_step) (pc := 270) dX3_step_270 0 rfl rfl ?_
            refine r_iload_n (M := m_X3_step) (pc := 271) dX3_step_271 1 rfl rfl ?_
            refine r_bipush (M := m_X3_step) (pc := 272) dX3_step_272 59 rfl ?_
            refine r_icmp_ne (M := m_X3_step) (pc := 274) dX3_step_274 283 (by decide) (fun hc => ?_) (fun hc => ?_)
            · replace H := f_if H hc
              obtain ⟨x56, h57, H⟩ := H
              refine r_getstatic (M := m_X3_step) (pc := 283) dX3_step_283 14 _ rfl q523 h57 ?_
              obtain ⟨a58, fs59, e9, h60, h60b, H⟩ := H; cases e9
              refine r_put (M := m_X3_step) (pc := 286) dX3_step_286 "VersionSearch$Reader" 3 5 _ rfl (Nat.le_of_ble_eq_true rfl) q554 (Or.inl rfl) rfl h60 (Nat.le_of_ble_eq_true rfl) h60b (nar_ro _ _) (fit_ro _ _) ?_
              exact r_return (M := m_X3_step) (pc := 289) dX3_step_289 rfl H
            · replace H := f_it H hc
              obtain ⟨x62, h63, H⟩ := H
              refine r_getstatic (M := m_X3_step) (pc := 277) dX3_step_277 16 _ rfl q527 h63 ?_
              refine r_goto (M := m_X3_step) (pc := 280) dX3_step_280 286 (by decide) ?_
              obtain ⟨a64, fs65, e9, h66, h66b, H⟩ := H; cases e9
              refine r_put (M := m_X3_step) (pc := 286) dX3_step_286 "VersionSearch$Reader" 3 5 _ rfl (Nat.le_of_ble_eq_true rfl) q554 (Or.inl rfl) rfl h66 (Nat.le_of_ble_eq_true rfl) h66b (nar_ro _ _) (fit_ro _ _) ?_
              exact r_return (M := m_X3_step) (pc := 289) dX3_step_289 rfl H
          · replace H := f_if H hc
            refine r_aload_n (M := m_X3_step) (pc := 163) dX3_step_163 0 rfl rfl ?_
            refine r_iconst (M := m_X3_step) (pc := 164) dX3_step_164 0 rfl ?_
            obtain ⟨a68, fs69, e9, h70, h70b, H⟩ := H; cases e9
            refine r_put (M := m_X3_step) (pc := 165) dX3_step_165 "VersionSearch$Reader" 3 4 _ rfl (Nat.le_of_ble_eq_true rfl) q553 (Or.inl rfl) rfl h70 (Nat.le_of_ble_eq_true rfl) h70b rfl rfl ?_
            exact pw_weak (le_s (le_n (le_n le_0))) H
        · replace H := f_if H hc
          refine r_new (M := m_X3_step) (pc := 78) dX3_step_78 20 _ rfl (Nat.le_of_ble_eq_true rfl) q331 q332 q145 [va_rf none, .int 0, .int 0, .int 0] rfl 4 rfl ?_
          refine r_dup (M := m_X3_step) (pc := 81) dX3_step_81 (pw_cat_rf _) ?_
          refine r_bipush (M := m_X3_step) (pc := 82) dX3_step_82 8 rfl ?_
          refine r_I (M := m_X3_step) (pc := 84) dX3_step_84 m_J5_init k_J5_init rfl rfl q333 q334 (av := [.int _]) (dy := d) n_J5_init rfl (pw_c4 (Nat.le_of_ble_eq_true rfl)) (Nat.le_refl _) (H.mono (pw_nx_v (fun w73 H1 => ?_)))
          replace H := H1; clear H1
          refine r_astore_n (M := m_X3_step) (pc := 87) dX3_step_87 2 rfl (Nat.le_of_ble_eq_true rfl) rfl ?_
          exact pw_weak (le_s (le_n (le_s le_0))) H
      · replace H := f_it H hc
        refine r_aload_n (M := m_X3_step) (pc := 61) dX3_step_61 0 rfl rfl ?_
        obtain ⟨x74, h75, H⟩ := H
        refine r_getstatic (M := m_X3_step) (pc := 62) dX3_step_62 12 _ rfl q326 h75 ?_
        obtain ⟨a76, fs77, e9, h78, h78b, H⟩ := H; cases e9
        refine r_put (M := m_X3_step) (pc := 65) dX3_step_65 "VersionSearch$Reader" 3 5 _ rfl (Nat.le_of_ble_eq_true rfl) q554 (Or.inl rfl) rfl h78 (Nat.le_of_ble_eq_true rfl) h78b (nar_ro _ _) (fit_ro _ _) ?_
        refine r_goto (M := m_X3_step) (pc := 68) dX3_step_68 289 (by decide) ?_
        exact r_return (M := m_X3_step) (pc := 289) dX3_step_289 rfl H
    · replace H := f_it H hc
      refine r_aload_n (M := m_X3_step) (pc := 26) dX3_step_26 0 rfl rfl ?_
      refine r_dup (M := m_X3_step) (pc := 27) dX3_step_27 (pw_cat_rf _) ?_
      obtain ⟨a81, fs82, x80, e9, h83, h83v, H⟩ := H; cases e9
      refine r_get (M := m_X3_step) (pc := 28) dX3_step_28 "VersionSearch$Reader" 3 2 _ rfl (Nat.le_of_ble_eq_true rfl) q551 (Or.inl rfl) h83 (Nat.le_of_ble_eq_true rfl) h83v ?_
      refine r_iconst (M := m_X3_step) (pc := 31) dX3_step_31 1 rfl ?_
      refine r_iadd (M := m_X3_step) (pc := 32) dX3_step_32 ?_
      obtain ⟨a84, fs85, e9, h86, h86b, H⟩ := H; cases e9
      refine r_put (M := m_X3_step) (pc := 33) dX3_step_33 "VersionSearch$Reader" 3 2 _ rfl (Nat.le_of_ble_eq_true rfl) q551 (Or.inl rfl) rfl h86 (Nat.le_of_ble_eq_true rfl) h86b rfl rfl ?_
      refine r_goto (M := m_X3_step) (pc := 36) dX3_step_36 0 (by decide) ?_
      exact pw_weak (le_s (le_n (le_n le_0))) H
theorem s_X3_step_k3_88 {E : pw_E} {d : Nat} {w : pw_W} {Post : pw_R → pw_W → Prop} (v0 : Option Nat) (v2 : Option Nat) (H : f_geti w v0 3 2 (fun x1 => f_V E w v0 3 m_X3_at d [.int x1] (c_i (fun x6 w5 => pw_Cl E m_X3_isLetter d [.int x6] w5 (c_z (fun b11 w10 => (if (bI b11) = 0 then f_V E w10 v2 20 m_J5_toString d [] (c_r (fun o13 w12 => f_put E w12 v0 3 6 (va_rf o13) (fun w20 => f_str E 13 (fun x21 => f_put E w20 v0 3 5 (va_rf x21) (fun w26 => Post (.inl none) w26))))) else f_V E w10 v2 20 m_J5_length d [] (c_i (fun x28 w27 => (if 7 ≤ x28 then f_geti w27 v0 3 2 (fun x32 => f_put E w27 v0 3 2 (.int (x32 + 1)) (fun w39 => pw_Wp E m_X3_step (d + 1) 88 [some (va_rf v0), none, some (va_rf v2)] [] w39 Post)) else f_geti w27 v0 3 2 (fun x40 => f_V E w27 v0 3 m_X3_at d [.int x40] (c_i (fun x45 w44 => f_V E w44 v2 20 m_J5_append d [.int ((x45.toUInt32 % 65536).toInt32)] (c_r (fun o50 w49 => f_geti w49 v0 3 2 (fun x54 => f_put E w49 v0 3 2 (.int (x54 + 1)) (fun w61 => pw_Wp E m_X3_step (d + 1) 88 [some (va_rf v0), none, some (va_rf v2)] [] w61 Post))))))))))))))))) : pw_Wp E m_X3_step (d + 1) 88 [some (va_rf v0), none, some (va_rf v2)] [] w Post := by
  refine r_aload_n (M := m_X3_step) (pc := 88) dX3_step_88 0 rfl rfl ?_
  refine r_aload_n (M := m_X3_step) (pc := 89) dX3_step_89 0 rfl rfl ?_
  obtain ⟨a2, fs3, x1, e9, h4, h4v, H⟩ := H; cases e9
  refine r_get (M := m_X3_step) (pc := 90) dX3_step_90 "VersionSearch$Reader" 3 2 _ rfl (Nat.le_of_ble_eq_true rfl) q551 (Or.inl rfl) h4 (Nat.le_of_ble_eq_true rfl) h4v ?_
  obtain ⟨a7, us8, e9, h9, H⟩ := H; cases e9
  refine r_P (M := m_X3_step) (pc := 93) dX3_step_93 m_X3_at k_X3_at q322 q324 q318 rfl q323 3 _ rfl (av := [.int _]) (dy := d) n_X3_at h9 rfl (pw_c4 (Nat.le_of_ble_eq_true rfl)) (Nat.le_refl _) (H.mono (pw_nx_i (fun x6 w5 H1 => ?_)))
  replace H := H1; clear H1
  refine r_S (M := m_X3_step) (pc := 96) dX3_step_96 m_X3_isLetter k_X3_isLetter q328 q329 (av := [.int _]) (dy := d) n_X3_isLetter rfl (pw_c4 (Nat.le_of_ble_eq_true rfl)) (Nat.le_refl _) (H.mono (pw_nx_z (fun b11 w10 H1 => ?_)))
  replace H := H1; clear H1
  refine r_if_eq (M := m_X3_step) (pc := 99) dX3_step_99 138 (by decide) (fun hc => ?_) (fun hc => ?_)
  · replace H := f_it H hc
    refine r_aload_n (M := m_X3_step) (pc := 138) dX3_step_138 0 rfl rfl ?_
    refine r_aload_n (M := m_X3_step) (pc := 139) dX3_step_139 2 rfl rfl ?_
    obtain ⟨a14, us15, e9, h16, H⟩ := H; cases e9
    refine r_V (M := m_X3_step) (pc := 140) dX3_step_140 m_J5_toString k_J5_toString q464 q465 20 _ rfl q466 (av := []) (dy := d) n_J5_toString h16 rfl (pw_c4 (Nat.le_of_ble_eq_true rfl)) (Nat.le_refl _) (H.mono (pw_nx_r (fun o13 w12 H1 => ?_)))
    replace H := H1; clear H1
    obtain ⟨a17, fs18, e9, h19, h19b, H⟩ := H; cases e9
    refine r_put (M := m_X3_step) (pc := 143) dX3_step_143 "VersionSearch$Reader" 3 6 _ rfl (Nat.le_of_ble_eq_true rfl) q555 (Or.inl rfl) rfl h19 (Nat.le_of_ble_eq_true rfl) h19b (nar_ro _ _) (fit_ro _ _) ?_
    refine r_aload_n (M := m_X3_step) (pc := 146) dX3_step_146 0 rfl rfl ?_
    obtain ⟨x21, h22, H⟩ := H
    refine r_getstatic (M := m_X3_step) (pc := 147) dX3_step_147 13 _ rfl q518 h22 ?_
    obtain ⟨a23, fs24, e9, h25, h25b, H⟩ := H; cases e9
    refine r_put (M := m_X3_step) (pc := 150) dX3_step_150 "VersionSearch$Reader" 3 5 _ rfl (Nat.le_of_ble_eq_true rfl) q554 (Or.inl rfl) rfl h25 (Nat.le_of_ble_eq_true rfl) h25b (nar_ro _ _) (fit_ro _ _) ?_
    refine r_goto (M := m_X3_step) (pc := 153) dX3_step_153 289 (by decide) ?_
    exact r_return (M := m_X3_step) (pc := 289) dX3_step_289 rfl H
  · replace H := f_if H hc
    refine r_aload_n (M := m_X3_step) (pc := 102) dX3_step_102 2 rfl rfl ?_
    obtain ⟨a29, us30, e9, h31, H⟩ := H; cases e9
    refine r_V (M := m_X3_step) (pc := 103) dX3_step_103 m_J5_length k_J5_length q362 q363 20 _ rfl q364 (av := []) (dy := d) n_J5_length h31 rfl (pw_c4 (Nat.le_of_ble_eq_true rfl)) (Nat.le_refl _) (H.mono (pw_nx_i (fun x28 w27 H1 => ?_)))
    replace H := H1; clear H1
    refine r_bipush (M := m_X3_step) (pc := 106) dX3_step_106 7 rfl ?_
    refine r_icmp_ge (M := m_X3_step) (pc := 108) dX3_step_108 125 (by decide) (fun hc => ?_) (fun hc => ?_)
    · replace H := f_it H hc
      refine r_aload_n (M := m_X3_step) (pc := 125) dX3_step_125 0 rfl rfl ?_
      refine r_dup (M := m_X3_step) (pc := 126) dX3_step_126 (pw_cat_rf _) ?_
      obtain ⟨a33, fs34, x32, e9, h35, h35v, H⟩ := H; cases e9
      refine r_get (M := m_X3_step) (pc := 127) dX3_step_127 "VersionSearch$Reader" 3 2 _ rfl (Nat.le_of_ble_eq_true rfl) q551 (Or.inl rfl) h35 (Nat.le_of_ble_eq_true rfl) h35v ?_
      refine r_iconst (M := m_X3_step) (pc := 130) dX3_step_130 1 rfl ?_
      refine r_iadd (M := m_X3_step) (pc := 131) dX3_step_131 ?_
      obtain ⟨a36, fs37, e9, h38, h38b, H⟩ := H; cases e9
      refine r_put (M := m_X3_step) (pc := 132) dX3_step_132 "VersionSearch$Reader" 3 2 _ rfl (Nat.le_of_ble_eq_true rfl) q551 (Or.inl rfl) rfl h38 (Nat.le_of_ble_eq_true rfl) h38b rfl rfl ?_
      refine r_goto (M := m_X3_step) (pc := 135) dX3_step_135 88 (by decide) ?_
      exact pw_weak (le_s (le_n (le_s le_0))) H
    · replace H := f_if H hc
      refine r_aload_n (M := m_X3_step) (pc := 111) dX3_step_111 2 rfl rfl ?_
      refine r_aload_n (M := m_X3_step) (pc := 112) dX3_step_112 0 rfl rfl ?_
      refine r_aload_n (M := m_X3_step) (pc := 113) dX3_step_113 0 rfl rfl ?_
      obtain ⟨a41, fs42, x40, e9, h43, h43v, H⟩ := H; cases e9
      refine r_get (M := m_X3_step) (pc := 114) dX3_step_114 "VersionSearch$Reader" 3 2 _ rfl (Nat.le_of_ble_eq_true rfl) q551 (Or.inl rfl) h43 (Nat.le_of_ble_eq_true rfl) h43v ?_
      obtain ⟨a46, us47, e9, h48, H⟩ := H; cases e9
      refine r_P (M := m_X3_step) (pc := 117) dX3_step_117 m_X3_at k_X3_at q322 q324 q318 rfl q323 3 _ rfl (av := [.int _]) (dy := d) n_X3_at h48 rfl (pw_c4 (Nat.le_of_ble_eq_true rfl)) (Nat.le_refl _) (H.mono (pw_nx_i (fun x45 w44 H1 => ?_)))
      replace H := H1; clear H1
      refine r_i2c (M := m_X3_step) (pc := 120) dX3_step_120 ?_
      obtain ⟨a51, us52, e9, h53, H⟩ := H; cases e9
      refine r_V (M := m_X3_step) (pc := 121) dX3_step_121 m_J5_append k_J5_append q369 q370 20 _ rfl q371 (av := [.int _]) (dy := d) n_J5_append h53 rfl (pw_c4 (Nat.le_of_ble_eq_true rfl)) (Nat.le_refl _) (H.mono (pw_nx_r (fun o50 w49 H1 => ?_)))
      replace H := H1; clear H1
      refine r_pop (M := m_X3_step) (pc := 124) dX3_step_124 (pw_cat_rf _) ?_
      refine r_aload_n (M := m_X3_step) (pc := 125) dX3_step_125 0 rfl rfl ?_
      refine r_dup (M := m_X3_step) (pc := 126) dX3_step_126 (pw_cat_rf _) ?_
      obtain ⟨a55, fs56, x54, e9, h57, h57v, H⟩ := H; cases e9
      refine r_get (M := m_X3_step) (pc := 127) dX3_step_127 "VersionSearch$Reader" 3 2 _ rfl (Nat.le_of_ble_eq_true rfl) q551 (Or.inl rfl) h57 (Nat.le_of_ble_eq_true rfl) h57v ?_
      refine r_iconst (M := m_X3_step) (pc := 130) dX3_step_130 1 rfl ?_
      refine r_iadd (M := m_X3_step) (pc := 131) dX3_step_131 ?_
      obtain ⟨a58, fs59, e9, h60, h60b, H⟩ := H; cases e9
      refine r_put (M := m_X3_step) (pc := 132) dX3_step_132 "VersionSearch$Reader" 3 2 _ rfl (Nat.le_of_ble_eq_true rfl) q551 (Or.inl rfl) rfl h60 (Nat.le_of_ble_eq_true rfl) h60b rfl rfl ?_
      refine r_goto (M := m_X3_step) (pc := 135) dX3_step_135 88 (by decide) ?_
      exact pw_weak (le_s (le_n (le_s le_0))) H
theorem s_X3_step_k3_168 {E : pw_E} {d : Nat} {w : pw_W} {Post : pw_R → pw_W → Prop} (v0 : Option Nat) (H : f_geti w v0 3 2 (fun x1 => f_V E w v0 3 m_X3_at d [.int x1] (c_i (fun x6 w5 => pw_Cl E m_X3_isDigit d [.int x6] w5 (c_z (fun b11 w10 => (if (bI b11) = 0 then f_geti w10 v0 3 2 (fun x12 => f_geti w10 v0 3 3 (fun x16 => (if (x12 - x16) ≤ 2 then f_str E 15 (fun x20 => f_put E w10 v0 3 5 (va_rf x20) (fun w25 => Post (.inl none) w25)) else f_str E 14 (fun x26 => f_put E w10 v0 3 5 (va_rf x26) (fun w31 => Post (.inl none) w31))))) else f_geti w10 v0 3 2 (fun x32 => f_geti w10 v0 3 3 (fun x36 => (if 2 ≤ (x32 - x36) then f_geti w10 v0 3 2 (fun x40 => f_put E w10 v0 3 2 (.int (x40 + 1)) (fun w47 => pw_Wp E m_X3_step (d + 1) 168 [some (va_rf v0), none, none] [] w47 Post)) else f_geti w10 v0 3 4 (fun x48 => f_geti w10 v0 3 2 (fun x52 => f_V E w10 v0 3 m_X3_at d [.int x52] (c_i (fun x57 w56 => f_put E w56 v0 3 4 (.int (((10 * x48) + x57) - 48)) (fun w64 => f_geti w64 v0 3 2 (fun x65 => f_put E w64 v0 3 2 (.int (x65 + 1)) (fun w72 => pw_Wp E m_X3_step (d + 1) 168 [some (va_rf v0), none, none] [] w72 Post))))))))))))))))) : pw_Wp E m_X3_step (d + 1) 168 [some (va_rf v0), none, none] [] w Post := by
  refine r_aload_n (M := m_X3_step) (pc := 168) dX3_step_168 0 rfl rfl ?_
  refine r_aload_n (M := m_X3_step) (pc := 169) dX3_step_169 0 rfl rfl ?_
  obtain ⟨a2, fs3, x1, e9, h4, h4v, H⟩ := H; cases e9
  refine r_get (M := m_X3_step) (pc := 170) dX3_step_170 "VersionSearch$Reader" 3 2 _ rfl (Nat.le_of_ble_eq_true rfl) q551 (Or.inl rfl) h4 (Nat.le_of_ble_eq_true rfl) h4v ?_
  obtain ⟨a7, us8, e9, h9, H⟩ := H; cases e9
  refine r_P (M := m_X3_step) (pc := 173) dX3_step_173 m_X3_at k_X3_at q322 q324 q318 rfl q323 3 _ rfl (av := [.int _]) (dy := d) n_X3_at h9 rfl (pw_c4 (Nat.le_of_ble_eq_true rfl)) (Nat.le_refl _) (H.mono (pw_nx_i (fun x6 w5 H1 => ?_)))
  replace H := H1; clear H1
  refine r_S (M := m_X3_step) (pc := 176) dX3_step_176 m_X3_isDigit k_X3_isDigit q520 q521 (av := [.int _]) (dy := d) n_X3_isDigit rfl (pw_c4 (Nat.le_of_ble_eq_true rfl)) (Nat.le_refl _) (H.mono (pw_nx_z (fun b11 w10 H1 => ?_)))
  replace H := H1; clear H1
  refine r_if_eq (M := m_X3_step) (pc := 179) dX3_step_179 231 (by decide) (fun hc => ?_) (fun hc => ?_)
  · replace H := f_it H hc
    refine r_aload_n (M := m_X3_step) (pc := 231) dX3_step_231 0 rfl rfl ?_
    refine r_aload_n (M := m_X3_step) (pc := 232) dX3_step_232 0 rfl rfl ?_
    obtain ⟨a13, fs14, x12, e9, h15, h15v, H⟩ := H; cases e9
    refine r_get (M := m_X3_step) (pc := 233) dX3_step_233 "VersionSearch$Reader" 3 2 _ rfl (Nat.le_of_ble_eq_true rfl) q551 (Or.inl rfl) h15 (Nat.le_of_ble_eq_true rfl) h15v ?_
    refine r_aload_n (M := m_X3_step) (pc := 236) dX3_step_236 0 rfl rfl ?_
    obtain ⟨a17, fs18, x16, e9, h19, h19v, H⟩ := H; cases e9
    refine r_get (M := m_X3_step) (pc := 237) dX3_step_237 "VersionSearch$Reader" 3 3 _ rfl (Nat.le_of_ble_eq_true rfl) q552 (Or.inl rfl) h19 (Nat.le_of_ble_eq_true rfl) h19v ?_
    refine r_isub (M := m_X3_step) (pc := 240) dX3_step_240 ?_
    refine r_iconst (M := m_X3_step) (pc := 241) dX3_step_241 2 rfl ?_
    refine r_icmp_le (M := m_X3_step) (pc := 242) dX3_step_242 251 (by decide) (fun hc => ?_) (fun hc => ?_)
    · replace H := f_it H hc
      obtain ⟨x20, h21, H⟩ := H
      refine r_getstatic (M := m_X3_step) (pc := 251) dX3_step_251 15 _ rfl q525 h21 ?_
      obtain ⟨a22, fs23, e9, h24, h24b, H⟩ := H; cases e9
      refine r_put (M := m_X3_step) (pc := 254) dX3_step_254 "VersionSearch$Reader" 3 5 _ rfl (Nat.le_of_ble_eq_true rfl) q554 (Or.inl rfl) rfl h24 (Nat.le_of_ble_eq_true rfl) h24b (nar_ro _ _) (fit_ro _ _) ?_
      refine r_goto (M := m_X3_step) (pc := 257) dX3_step_257 289 (by decide) ?_
      exact r_return (M := m_X3_step) (pc := 289) dX3_step_289 rfl H
    · replace H := f_if H hc
      obtain ⟨x26, h27, H⟩ := H
      refine r_getstatic (M := m_X3_step) (pc := 245) dX3_step_245 14 _ rfl q523 h27 ?_
      refine r_goto (M := m_X3_step) (pc := 248) dX3_step_248 254 (by decide) ?_
      obtain ⟨a28, fs29, e9, h30, h30b, H⟩ := H; cases e9
      refine r_put (M := m_X3_step) (pc := 254) dX3_step_254 "VersionSearch$Reader" 3 5 _ rfl (Nat.le_of_ble_eq_true rfl) q554 (Or.inl rfl) rfl h30 (Nat.le_of_ble_eq_true rfl) h30b (nar_ro _ _) (fit_ro _ _) ?_
      refine r_goto (M := m_X3_step) (pc := 257) dX3_step_257 289 (by decide) ?_
      exact r_return (M := m_X3_step) (pc := 289) dX3_step_289 rfl H
  · replace H := f_if H hc
    refine r_aload_n (M := m_X3_step) (pc := 182) dX3_step_182 0 rfl rfl ?_
    obtain ⟨a33, fs34, x32, e9, h35, h35v, H⟩ := H; cases e9
    refine r_get (M := m_X3_step) (pc := 183) dX3_step_183 "VersionSearch$Reader" 3 2 _ rfl (Nat.le_of_ble_eq_true rfl) q551 (Or.inl rfl) h35 (Nat.le_of_ble_eq_true rfl) h35v ?_
    refine r_aload_n (M := m_X3_step) (pc := 186) dX3_step_186 0 rfl rfl ?_
    obtain ⟨a37, fs38, x36, e9, h39, h39v, H⟩ := H; cases e9
    refine r_get (M := m_X3_step) (pc := 187) dX3_step_187 "VersionSearch$Reader" 3 3 _ rfl (Nat.le_of_ble_eq_true rfl) q552 (Or.inl rfl) h39 (Nat.le_of_ble_eq_true rfl) h39v ?_
    refine r_isub (M := m_X3_step) (pc := 190) dX3_step_190 ?_
    refine r_iconst (M := m_X3_step) (pc := 191) dX3_step_191 2 rfl ?_
    refine r_icmp_ge (M := m_X3_step) (pc := 192) dX3_step_192 218 (by decide) (fun hc => ?_) (fun hc => ?_)
    · replace H := f_it H hc
      refine r_aload_n (M := m_X3_step) (pc := 218) dX3_step_218 0 rfl rfl ?_
      refine r_dup (M := m_X3_step) (pc := 219) dX3_step_219 (pw_cat_rf _) ?_
      obtain ⟨a41, fs42, x40, e9, h43, h43v, H⟩ := H; cases e9
      refine r_get (M := m_X3_step) (pc := 220) dX3_step_220 "VersionSearch$Reader" 3 2 _ rfl (Nat.le_of_ble_eq_true rfl) q551 (Or.inl rfl) h43 (Nat.le_of_ble_eq_true rfl) h43v ?_
      refine r_iconst (M := m_X3_step) (pc := 223) dX3_step_223 1 rfl ?_
      refine r_iadd (M := m_X3_step) (pc := 224) dX3_step_224 ?_
      obtain ⟨a44, fs45, e9, h46, h46b, H⟩ := H; cases e9
      refine r_put (M := m_X3_step) (pc := 225) dX3_step_225 "VersionSearch$Reader" 3 2 _ rfl (Nat.le_of_ble_eq_true rfl) q551 (Or.inl rfl) rfl h46 (Nat.le_of_ble_eq_true rfl) h46b rfl rfl ?_
      refine r_goto (M := m_X3_step) (pc := 228) dX3_step_228 168 (by decide) ?_
      exact pw_weak (le_s (le_n (le_n le_0))) H
    · replace H := f_if H hc
      refine r_aload_n (M := m_X3_step) (pc := 195) dX3_step_195 0 rfl rfl ?_
      refine r_bipush (M := m_X3_step) (pc := 196) dX3_step_196 10 rfl ?_
      refine r_aload_n (M := m_X3_step) (pc := 198) dX3_step_198 0 rfl rfl ?_
      obtain ⟨a49, fs50, x48, e9, h51, h51v, H⟩ := H; cases e9
      refine r_get (M := m_X3_step) (pc := 199) dX3_step_199 "VersionSearch$Reader" 3 4 _ rfl (Nat.le_of_ble_eq_true rfl) q553 (Or.inl rfl) h51 (Nat.le_of_ble_eq_true rfl) h51v ?_
      refine r_imul (M := m_X3_step) (pc := 202) dX3_step_202 ?_
      refine r_aload_n (M := m_X3_step) (pc := 203) dX3_step_203 0 rfl rfl ?_
      refine r_aload_n (M := m_X3_step) (pc := 204) dX3_step_204 0 rfl rfl ?_
      obtain ⟨a53, fs54, x52, e9, h55, h55v, H⟩ := H; cases e9
      refine r_get (M := m_X3_step) (pc := 205) dX3_step_205 "VersionSearch$Reader" 3 2 _ rfl (Nat.le_of_ble_eq_true rfl) q551 (Or.inl rfl) h55 (Nat.le_of_ble_eq_true rfl) h55v ?_
      obtain ⟨a58, us59, e9, h60, H⟩ := H; cases e9
      refine r_P (M := m_X3_step) (pc := 208) dX3_step_208 m_X3_at k_X3_at q322 q324 q318 rfl q323 3 _ rfl (av := [.int _]) (dy := d) n_X3_at h60 rfl (pw_c4 (Nat.le_of_ble_eq_true rfl)) (Nat.le_refl _) (H.mono (pw_nx_i (fun x57 w56 H1 => ?_)))
      replace H := H1; clear H1
      refine r_iadd (M := m_X3_step) (pc := 211) dX3_step_211 ?_
      refine r_bipush (M := m_X3_step) (pc := 212) dX3_step_212 48 rfl ?_
      refine r_isub (M := m_X3_step) (pc := 214) dX3_step_214 ?_
      obtain ⟨a61, fs62, e9, h63, h63b, H⟩ := H; cases e9
      refine r_put (M := m_X3_step) (pc := 215) dX3_step_215 "VersionSearch$Reader" 3 4 _ rfl (Nat.le_of_ble_eq_true rfl) q553 (Or.inl rfl) rfl h63 (Nat.le_of_ble_eq_true rfl) h63b rfl rfl ?_
      refine r_aload_n (M := m_X3_step) (pc := 218) dX3_step_218 0 rfl rfl ?_
      refine r_dup (M := m_X3_step) (pc := 219) dX3_step_219 (pw_cat_rf _) ?_
      obtain ⟨a66, fs67, x65, e9, h68, h68v, H⟩ := H; cases e9
      refine r_get (M := m_X3_step) (pc := 220) dX3_step_220 "VersionSearch$Reader" 3 2 _ rfl (Nat.le_of_ble_eq_true rfl) q551 (Or.inl rfl) h68 (Nat.le_of_ble_eq_true rfl) h68v ?_
      refine r_iconst (M := m_X3_step) (pc := 223) dX3_step_223 1 rfl ?_
      refine r_iadd (M := m_X3_step) (pc := 224) dX3_step_224 ?_
      obtain ⟨a69, fs70, e9, h71, h71b, H⟩ := H; cases e9
      refine r_put (M := m_X3_step) (pc := 225) dX3_step_225 "VersionSearch$Reader" 3 2 _ rfl (Nat.le_of_ble_eq_true rfl) q551 (Or.inl rfl) rfl h71 (Nat.le_of_ble_eq_true rfl) h71b rfl rfl ?_
      refine r_goto (M := m_X3_step) (pc := 228) dX3_step_228 168 (by decide) ?_
      exact pw_weak (le_s (le_n (le_n le_0))) H
theorem s_X3_step_k8_0 {E : pw_E} {d : Nat} {w : pw_W} {Post : pw_R → pw_W → Prop} (v0 : Option Nat) (H : f_geti w v0 8 2 (fun x1 => f_V E w v0 8 m_X3_at d [.int x1] (c_i (fun x6 w5 => (if x6 = 10 then f_geti w5 v0 8 2 (fun x10 => f_put E w5 v0 8 2 (.int (x10 + 1)) (fun w17 => pw_Wp E m_X3_step (d + 1) 0 [some (va_rf v0), none, none] [] w17 Post)) else f_geti w5 v0 8 2 (fun x18 => f_V E w5 v0 8 m_X3_at d [.int x18] (c_i (fun x23 w22 => (if x23 = 32 then f_geti w22 v0 8 2 (fun x80 => f_put E w22 v0 8 2 (.int (x80 + 1)) (fun w87 => pw_Wp E m_X3_step (d + 1) 0 [some (va_rf v0), none, none] [] w87 Post)) else f_geti w22 v0 8 2 (fun x27 => f_put E w22 v0 8 3 (.int x27) (fun w34 => f_geti w34 v0 8 2 (fun x35 => f_V E w34 v0 8 m_X3_at d [.int x35] (c_i (fun x40 w39 => (if x40 = (-1) then f_str E 12 (fun x74 => f_put E w39 v0 8 5 (va_rf x74) (fun w79 => Post (.inl none) w79)) else pw_Cl E m_X3_isLetter d [.int x40] w39 (c_z (fun b45 w44 => (if (bI b45) = 0 then pw_Cl E m_X3_isDigit d [.int x40] w44 (c_z (fun b47 w46 => (if (bI b47) = 0 then f_geti w46 v0 8 2 (fun x48 => f_put E w46 v0 8 2 (.int (x48 + 1)) (fun w55 => (if x40 = 59 then f_str E 16 (fun x62 => f_put E w55 v0 8 5 (va_rf x62) (fun w67 => Post (.inl none) w67)) else f_str E 14 (fun x56 => f_put E w55 v0 8 5 (va_rf x56) (fun w61 => Post (.inl none) w61))))) else f_put E w46 v0 8 4 (.int 0) (fun w71 => pw_Wp E m_X3_step (d + 1) 168 [some (va_rf v0), none, none] [] w71 Post)))) else (fun w72 => pw_Cl E m_J5_init d (va_rf (some w44.2.1) :: [.int 8]) w72 (c_v (fun w73 => pw_Wp E m_X3_step (d + 1) 88 [some (va_rf v0), none, some (va_rf (some w44.2.1))] [] w73 Post))) (pw_new w44 (20, [va_rf none, .int 0, .int 0, .int 0]) 4))))))))))))))))))) : pw_Wp E m_X3_step (d + 1) 0 [some (va_rf v0), none, none] [] w Post := by
  refine r_aload_n (M := m_X3_step) (pc := 0) dX3_step_0 0 rfl rfl ?_
  refine r_aload_n (M := m_X3_step) (pc := 1) dX3_step_1 0 rfl rfl ?_
  obtain ⟨a2, fs3, x1, e9, h4, h4v, H⟩ := H; cases e9
  refine r_get (M := m_X3_step) (pc := 2) dX3_step_2 "VersionSearch$Reader" 8 2 _ rfl (Nat.le_of_ble_eq_true rfl) q551 (Or.inl rfl) h4 (Nat.le_of_ble_eq_true rfl) h4v ?_
  obtain ⟨a7, us8, e9, h9, H⟩ := H; cases e9
  refine r_P (M := m_X3_step) (pc := 5) dX3_step_5 m_X3_at k_X3_at q322 q324 q318 rfl q323 8 _ rfl (av := [.int _]) (dy := d) n_X3_at h9 rfl (pw_c4 (Nat.le_of_ble_eq_true rfl)) (Nat.le_refl _) (H.mono (pw_nx_i (fun x6 w5 H1 => ?_)))
  replace H := H1; clear H1
  refine r_bipush (M := m_X3_step) (pc := 8) dX3_step_8 10 rfl ?_
  refine r_icmp_eq (M := m_X3_step) (pc := 10) dX3_step_10 26 (by decide) (fun hc => ?_) (fun hc => ?_)
  · replace H := f_it H hc
    refine r_aload_n (M := m_X3_step) (pc := 26) dX3_step_26 0 rfl rfl ?_
    refine r_dup (M := m_X3_step) (pc := 27) dX3_step_27 (pw_cat_rf _) ?_
    obtain ⟨a11, fs12, x10, e9, h13, h13v, H⟩ := H; cases e9
    refine r_get (M := m_X3_step) (pc := 28) dX3_step_28 "VersionSearch$Reader" 8 2 _ rfl (Nat.le_of_ble_eq_true rfl) q551 (Or.inl rfl) h13 (Nat.le_of_ble_eq_true rfl) h13v ?_
    refine r_iconst (M := m_X3_step) (pc := 31) dX3_step_31 1 rfl ?_
    refine r_iadd (M := m_X3_step) (pc := 32) dX3_step_32 ?_
    obtain ⟨a14, fs15, e9, h16, h16b, H⟩ := H; cases e9
    refine r_put (M := m_X3_step) (pc := 33) dX3_step_33 "VersionSearch$Reader" 8 2 _ rfl (Nat.le_of_ble_eq_true rfl) q551 (Or.inl rfl) rfl h16 (Nat.le_of_ble_eq_true rfl) h16b rfl rfl ?_
    refine r_goto (M := m_X3_step) (pc := 36) dX3_step_36 0 (by decide) ?_
    exact pw_weak (le_s (le_n (le_n le_0))) H
  · replace H := f_if H hc
    refine r_aload_n (M := m_X3_step) (pc := 13) dX3_step_13 0 rfl rfl ?_
    refine r_aload_n (M := m_X3_step) (pc := 14) dX3_step_14 0 rfl rfl ?_
    obtain ⟨a19, fs20, x18, e9, h21, h21v, H⟩ := H; cases e9
    refine r_get (M := m_X3_step) (pc := 15) dX3_step_15 "VersionSearch$Reader" 8 2 _ rfl (Nat.le_of_ble_eq_true rfl) q551 (Or.inl rfl) h21 (Nat.le_of_ble_eq_true rfl) h21v ?_
    obtain ⟨a24, us25, e9, h26, H⟩ := H; cases e9
    refine r_P (M := m_X3_step) (pc := 18) dX3_step_18 m_X3_at k_X3_at q322 q324 q318 rfl q323 8 _ rfl (av := [.int _]) (dy := d) n_X3_at h26 rfl (pw_c4 (Nat.le_of_ble_eq_true rfl)) (Nat.le_refl _) (H.mono (pw_nx_i (fun x23 w22 H1 => ?_)))
    replace H := H1; clear H1
    refine r_bipush (M := m_X3_step) (pc := 21) dX3_step_21 32 rfl ?_
    refine r_icmp_ne (M := m_X3_step) (pc := 23) dX3_step_23 39 (by decide) (fun hc => ?_) (fun hc => ?_)
    · replace H := f_if H hc
      refine r_aload_n (M := m_X3_step) (pc := 39) dX3_step_39 0 rfl rfl ?_
      refine r_aload_n (M := m_X3_step) (pc := 40) dX3_step_40 0 rfl rfl ?_
      obtain ⟨a28, fs29, x27, e9, h30, h30v, H⟩ := H; cases e9
      refine r_get (M := m_X3_step) (pc := 41) dX3_step_41 "VersionSearch$Reader" 8 2 _ rfl (Nat.le_of_ble_eq_true rfl) q551 (Or.inl rfl) h30 (Nat.le_of_ble_eq_true rfl) h30v ?_
      obtain ⟨a31, fs32, e9, h33, h33b, H⟩ := H; cases e9
      refine r_put (M := m_X3_step) (pc := 44) dX3_step_44 "VersionSearch$Reader" 8 3 _ rfl (Nat.le_of_ble_eq_true rfl) q552 (Or.inl rfl) rfl h33 (Nat.le_of_ble_eq_true rfl) h33b rfl rfl ?_
      refine r_aload_n (M := m_X3_step) (pc := 47) dX3_step_47 0 rfl rfl ?_
      refine r_aload_n (M := m_X3_step) (pc := 48) dX3_step_48 0 rfl rfl ?_
      obtain ⟨a36, fs37, x35, e9, h38, h38v, H⟩ := H; cases e9
      refine r_get (M := m_X3_step) (pc := 49) dX3_step_49 "VersionSearch$Reader" 8 2 _ rfl (Nat.le_of_ble_eq_true rfl) q551 (Or.inl rfl) h38 (Nat.le_of_ble_eq_true rfl) h38v ?_
      obtain ⟨a41, us42, e9, h43, H⟩ := H; cases e9
      refine r_P (M := m_X3_step) (pc := 52) dX3_step_52 m_X3_at k_X3_at q322 q324 q318 rfl q323 8 _ rfl (av := [.int _]) (dy := d) n_X3_at h43 rfl (pw_c4 (Nat.le_of_ble_eq_true rfl)) (Nat.le_refl _) (H.mono (pw_nx_i (fun x40 w39 H1 => ?_)))
      replace H := H1; clear H1
      refine r_istore_n (M := m_X3_step) (pc := 55) dX3_step_55 1 rfl (Nat.le_of_ble_eq_true rfl) (pw_pre_rf rfl) ?_
      refine r_iload_n (M := m_X3_step) (pc := 56) dX3_step_56 1 rfl rfl ?_
      refine r_iconst (M := m_X3_step) (pc := 57) dX3_step_57 (-1) rfl ?_
      refine r_icmp_ne (M := m_X3_step) (pc := 58) dX3_step_58 71 (by decide) (fun hc => ?_) (fun hc => ?_)
      · replace H := f_if H hc
        refine r_iload_n (M := m_X3_step) (pc := 71) dX3_step_71 1 rfl rfl ?_
        refine r_S (M := m_X3_step) (pc := 72) dX3_step_72 m_X3_isLetter k_X3_isLetter q328 q329 (av := [.int _]) (dy := d) n_X3_isLetter rfl (pw_c4 (Nat.le_of_ble_eq_true rfl)) (Nat.le_refl _) (H.mono (pw_nx_z (fun b45 w44 H1 => ?_)))
        replace H := H1; clear H1
        refine r_if_eq (M := m_X3_step) (pc := 75) dX3_step_75 156 (by decide) (fun hc => ?_) (fun hc => ?_)
        · replace H := f_it H hc
          refine r_iload_n (M := m_X3_step) (pc := 156) dX3_step_156 1 rfl rfl ?_
          refine r_S (M := m_X3_step) (pc := 157) dX3_step_157 m_X3_isDigit k_X3_isDigit q520 q521 (av := [.int _]) (dy := d) n_X3_isDigit rfl (pw_c4 (Nat.le_of_ble_eq_true rfl)) (Nat.le_refl _) (H.mono (pw_nx_z (fun b47 w46 H1 => ?_)))
          replace H := H1; clear H1
          refine r_if_eq (M := m_X3_step) (pc := 160) dX3_step_160 260 (by decide) (fun hc => ?_) (fun hc => ?_)
          · replace H := f_it H hc
            refine r_aload_n (M := m_X3_step) (pc := 260) dX3_step_260 0 rfl rfl ?_
            refine r_dup (M := m_X3_step) (pc := 261) dX3_step_261 (pw_cat_rf _) ?_
            obtain ⟨a49, fs50, x48, e9, h51, h51v, H⟩ := H; cases e9
            refine r_get (M := m_X3_step) (pc := 262) dX3_step_262 "VersionSearch$Reader" 8 2 _ rfl (Nat.le_of_ble_eq_true rfl) q551 (Or.inl rfl) h51 (Nat.le_of_ble_eq_true rfl) h51v ?_
            refine r_iconst (M := m_X3_step) (pc := 265) dX3_step_265 1 rfl ?_
            refine r_iadd (M := m_X3_step) (pc := 266) dX3_step_266 ?_
            obtain ⟨a52, fs53, e9, h54, h54b, H⟩ := H; cases e9
            refine r_put (M := m_X3_step) (pc := 267) dX3_step_267 "VersionSearch$Reader" 8 2 _ rfl (Nat.le_of_ble_eq_true rfl) q551 (Or.inl rfl) rfl h54 (Nat.le_of_ble_eq_true rfl) h54b rfl rfl ?_
            refine r_aload_n (M := m_X3_step) (pc := 270) dX3_step_270 0 rfl rfl ?_
            refine r_iload_n (M := m_X3_step) (pc := 271) dX3_step_271 1 rfl rfl ?_
            refine r_bipush (M := m_X3_step) (pc := 272) dX3_step_272 59 rfl ?_
            refine r_icmp_ne (M := m_X3_step) (pc := 274) dX3_step_274 283 (by decide) (fun hc => ?_) (fun hc => ?_)
            · replace H := f_if H hc
              obtain ⟨x56, h57, H⟩ := H
              refine r_getstatic (M := m_X3_step) (pc := 283) dX3_step_283 14 _ rfl q523 h57 ?_
              obtain ⟨a58, fs59, e9, h60, h60b, H⟩ := H; cases e9
              refine r_put (M := m_X3_step) (pc := 286) dX3_step_286 "VersionSearch$Reader" 8 5 _ rfl (Nat.le_of_ble_eq_true rfl) q554 (Or.inl rfl) rfl h60 (Nat.le_of_ble_eq_true rfl) h60b (nar_ro _ _) (fit_ro _ _) ?_
              exact r_return (M := m_X3_step) (pc := 289) dX3_step_289 rfl H
            · replace H := f_it H hc
              obtain ⟨x62, h63, H⟩ := H
              refine r_getstatic (M := m_X3_step) (pc := 277) dX3_step_277 16 _ rfl q527 h63 ?_
              refine r_goto (M := m_X3_step) (pc := 280) dX3_step_280 286 (by decide) ?_
              obtain ⟨a64, fs65, e9, h66, h66b, H⟩ := H; cases e9
              refine r_put (M := m_X3_step) (pc := 286) dX3_step_286 "VersionSearch$Reader" 8 5 _ rfl (Nat.le_of_ble_eq_true rfl) q554 (Or.inl rfl) rfl h66 (Nat.le_of_ble_eq_true rfl) h66b (nar_ro _ _) (fit_ro _ _) ?_
              exact r_return (M := m_X3_step) (pc := 289) dX3_step_289 rfl H
          · replace H := f_if H hc
            refine r_aload_n (M := m_X3_step) (pc := 163) dX3_step_163 0 rfl rfl ?_
            refine r_iconst (M := m_X3_step) (pc := 164) dX3_step_164 0 rfl ?_
            obtain ⟨a68, fs69, e9, h70, h70b, H⟩ := H; cases e9
            refine r_put (M := m_X3_step) (pc := 165) dX3_step_165 "VersionSearch$Reader" 8 4 _ rfl (Nat.le_of_ble_eq_true rfl) q553 (Or.inl rfl) rfl h70 (Nat.le_of_ble_eq_true rfl) h70b rfl rfl ?_
            exact pw_weak (le_s (le_n (le_n le_0))) H
        · replace H := f_if H hc
          refine r_new (M := m_X3_step) (pc := 78) dX3_step_78 20 _ rfl (Nat.le_of_ble_eq_true rfl) q331 q332 q145 [va_rf none, .int 0, .int 0, .int 0] rfl 4 rfl ?_
          refine r_dup (M := m_X3_step) (pc := 81) dX3_step_81 (pw_cat_rf _) ?_
          refine r_bipush (M := m_X3_step) (pc := 82) dX3_step_82 8 rfl ?_
          refine r_I (M := m_X3_step) (pc := 84) dX3_step_84 m_J5_init k_J5_init rfl rfl q333 q334 (av := [.int _]) (dy := d) n_J5_init rfl (pw_c4 (Nat.le_of_ble_eq_true rfl)) (Nat.le_refl _) (H.mono (pw_nx_v (fun w73 H1 => ?_)))
          replace H := H1; clear H1
          refine r_astore_n (M := m_X3_step) (pc := 87) dX3_step_87 2 rfl (Nat.le_of_ble_eq_true rfl) rfl ?_
          exact pw_weak (le_s (le_n (le_s le_0))) H
      · replace H := f_it H hc
        refine r_aload_n (M := m_X3_step) (pc := 61) dX3_step_61 0 rfl rfl ?_
        obtain ⟨x74, h75, H⟩ := H
        refine r_getstatic (M := m_X3_step) (pc := 62) dX3_step_62 12 _ rfl q326 h75 ?_
        obtain ⟨a76, fs77, e9, h78, h78b, H⟩ := H; cases e9
        refine r_put (M := m_X3_step) (pc := 65) dX3_step_65 "VersionSearch$Reader" 8 5 _ rfl (Nat.le_of_ble_eq_true rfl) q554 (Or.inl rfl) rfl h78 (Nat.le_of_ble_eq_true rfl) h78b (nar_ro _ _) (fit_ro _ _) ?_
        refine r_goto (M := m_X3_step) (pc := 68) dX3_step_68 289 (by decide) ?_
        exact r_return (M := m_X3_step) (pc := 289) dX3_step_289 rfl H
    · replace H := f_it H hc
      refine r_aload_n (M := m_X3_step) (pc := 26) dX3_step_26 0 rfl rfl ?_
      refine r_dup (M := m_X3_step) (pc := 27) dX3_step_27 (pw_cat_rf _) ?_
      obtain ⟨a81, fs82, x80, e9, h83, h83v, H⟩ := H; cases e9
      refine r_get (M := m_X3_step) (pc := 28) dX3_step_28 "VersionSearch$Reader" 8 2 _ rfl (Nat.le_of_ble_eq_true rfl) q551 (Or.inl rfl) h83 (Nat.le_of_ble_eq_true rfl) h83v ?_
      refine r_iconst (M := m_X3_step) (pc := 31) dX3_step_31 1 rfl ?_
      refine r_iadd (M := m_X3_step) (pc := 32) dX3_step_32 ?_
      obtain ⟨a84, fs85, e9, h86, h86b, H⟩ := H; cases e9
      refine r_put (M := m_X3_step) (pc := 33) dX3_step_33 "VersionSearch$Reader" 8 2 _ rfl (Nat.le_of_ble_eq_true rfl) q551 (Or.inl rfl) rfl h86 (Nat.le_of_ble_eq_true rfl) h86b rfl rfl ?_
      refine r_goto (M := m_X3_step) (pc := 36) dX3_step_36 0 (by decide) ?_
      exact pw_weak (le_s (le_n (le_n le_0))) H
theorem s_X3_step_k8_88 {E : pw_E} {d : Nat} {w : pw_W} {Post : pw_R → pw_W → Prop} (v0 : Option Nat) (v2 : Option Nat) (H : f_geti w v0 8 2 (fun x1 => f_V E w v0 8 m_X3_at d [.int x1] (c_i (fun x6 w5 => pw_Cl E m_X3_isLetter d [.int x6] w5 (c_z (fun b11 w10 => (if (bI b11) = 0 then f_V E w10 v2 20 m_J5_toString d [] (c_r (fun o13 w12 => f_put E w12 v0 8 6 (va_rf o13) (fun w20 => f_str E 13 (fun x21 => f_put E w20 v0 8 5 (va_rf x21) (fun w26 => Post (.inl none) w26))))) else f_V E w10 v2 20 m_J5_length d [] (c_i (fun x28 w27 => (if 7 ≤ x28 then f_geti w27 v0 8 2 (fun x32 => f_put E w27 v0 8 2 (.int (x32 + 1)) (fun w39 => pw_Wp E m_X3_step (d + 1) 88 [some (va_rf v0), none, some (va_rf v2)] [] w39 Post)) else f_geti w27 v0 8 2 (fun x40 => f_V E w27 v0 8 m_X3_at d [.int x40] (c_i (fun x45 w44 => f_V E w44 v2 20 m_J5_append d [.int ((x45.toUInt32 % 65536).toInt32)] (c_r (fun o50 w49 => f_geti w49 v0 8 2 (fun x54 => f_put E w49 v0 8 2 (.int (x54 + 1)) (fun w61 => pw_Wp E m_X3_step (d + 1) 88 [some (va_rf v0), none, some (va_rf v2)] [] w61 Post))))))))))))))))) : pw_Wp E m_X3_step (d + 1) 88 [some (va_rf v0), none, some (va_rf v2)] [] w Post := by
  refine r_aload_n (M := m_X3_step) (pc := 88) dX3_step_88 0 rfl rfl ?_
  refine r_aload_n (M := m_X3_step) (pc := 89) dX3_step_89 0 rfl rfl ?_
  obtain ⟨a2, fs3, x1, e9, h4, h4v, H⟩ := H; cases e9
  refine r_get (M := m_X3_step) (pc := 90) dX3_step_90 "VersionSearch$Reader" 8 2 _ rfl (Nat.le_of_ble_eq_true rfl) q551 (Or.inl rfl) h4 (Nat.le_of_ble_eq_true rfl) h4v ?_
  obtain ⟨a7, us8, e9, h9, H⟩ := H; cases e9
  refine r_P (M := m_X3_step) (pc := 93) dX3_step_93 m_X3_at k_X3_at q322 q324 q318 rfl q323 8 _ rfl (av := [.int _]) (dy := d) n_X3_at h9 rfl (pw_c4 (Nat.le_of_ble_eq_true rfl)) (Nat.le_refl _) (H.mono (pw_nx_i (fun x6 w5 H1 => ?_)))
  replace H := H1; clear H1
  refine r_S (M := m_X3_step) (pc := 96) dX3_step_96 m_X3_isLetter k_X3_isLetter q328 q329 (av := [.int _]) (dy := d) n_X3_isLetter rfl (pw_c4 (Nat.le_of_ble_eq_true rfl)) (Nat.le_refl _) (H.mono (pw_nx_z (fun b11 w10 H1 => ?_)))
  replace H := H1; clear H1
  refine r_if_eq (M := m_X3_step) (pc := 99) dX3_step_99 138 (by decide) (fun hc => ?_) (fun hc => ?_)
  · replace H := f_it H hc
    refine r_aload_n (M := m_X3_step) (pc := 138) dX3_step_138 0 rfl rfl ?_
    refine r_aload_n (M := m_X3_step) (pc := 139) dX3_step_139 2 rfl rfl ?_
    obtain ⟨a14, us15, e9, h16, H⟩ := H; cases e9
    refine r_V (M := m_X3_step) (pc := 140) dX3_step_140 m_J5_toString k_J5_toString q464 q465 20 _ rfl q466 (av := []) (dy := d) n_J5_toString h16 rfl (pw_c4 (Nat.le_of_ble_eq_true rfl)) (Nat.le_refl _) (H.mono (pw_nx_r (fun o13 w12 H1 => ?_)))
    replace H := H1; clear H1
    obtain ⟨a17, fs18, e9, h19, h19b, H⟩ := H; cases e9
    refine r_put (M := m_X3_step) (pc := 143) dX3_step_143 "VersionSearch$Reader" 8 6 _ rfl (Nat.le_of_ble_eq_true rfl) q555 (Or.inl rfl) rfl h19 (Nat.le_of_ble_eq_true rfl) h19b (nar_ro _ _) (fit_ro _ _) ?_
    refine r_aload_n (M := m_X3_step) (pc := 146) dX3_step_146 0 rfl rfl ?_
    obtain ⟨x21, h22, H⟩ := H
    refine r_getstatic (M := m_X3_step) (pc := 147) dX3_step_147 13 _ rfl q518 h22 ?_
    obtain ⟨a23, fs24, e9, h25, h25b, H⟩ := H; cases e9
    refine r_put (M := m_X3_step) (pc := 150) dX3_step_150 "VersionSearch$Reader" 8 5 _ rfl (Nat.le_of_ble_eq_true rfl) q554 (Or.inl rfl) rfl h25 (Nat.le_of_ble_eq_true rfl) h25b (nar_ro _ _) (fit_ro _ _) ?_
    refine r_goto (M := m_X3_step) (pc := 153) dX3_step_153 289 (by decide) ?_
    exact r_return (M := m_X3_step) (pc := 289) dX3_step_289 rfl H
  · replace H := f_if H hc
    refine r_aload_n (M := m_X3_step) (pc := 102) dX3_step_102 2 rfl rfl ?_
    obtain ⟨a29, us30, e9, h31, H⟩ := H; cases e9
    refine r_V (M := m_X3_step) (pc := 103) dX3_step_103 m_J5_length k_J5_length q362 q363 20 _ rfl q364 (av := []) (dy := d) n_J5_length h31 rfl (pw_c4 (Nat.le_of_ble_eq_true rfl)) (Nat.le_refl _) (H.mono (pw_nx_i (fun x28 w27 H1 => ?_)))
    replace H := H1; clear H1
    refine r_bipush (M := m_X3_step) (pc := 106) dX3_step_106 7 rfl ?_
    refine r_icmp_ge (M := m_X3_step) (pc := 108) dX3_step_108 125 (by decide) (fun hc => ?_) (fun hc => ?_)
    · replace H := f_it H hc
      refine r_aload_n (M := m_X3_step) (pc := 125) dX3_step_125 0 rfl rfl ?_
      refine r_dup (M := m_X3_step) (pc := 126) dX3_step_126 (pw_cat_rf _) ?_
      obtain ⟨a33, fs34, x32, e9, h35, h35v, H⟩ := H; cases e9
      refine r_get (M := m_X3_step) (pc := 127) dX3_step_127 "VersionSearch$Reader" 8 2 _ rfl (Nat.le_of_ble_eq_true rfl) q551 (Or.inl rfl) h35 (Nat.le_of_ble_eq_true rfl) h35v ?_
      refine r_iconst (M := m_X3_step) (pc := 130) dX3_step_130 1 rfl ?_
      refine r_iadd (M := m_X3_step) (pc := 131) dX3_step_131 ?_
      obtain ⟨a36, fs37, e9, h38, h38b, H⟩ := H; cases e9
      refine r_put (M := m_X3_step) (pc := 132) dX3_step_132 "VersionSearch$Reader" 8 2 _ rfl (Nat.le_of_ble_eq_true rfl) q551 (Or.inl rfl) rfl h38 (Nat.le_of_ble_eq_true rfl) h38b rfl rfl ?_
      refine r_goto (M := m_X3_step) (pc := 135) dX3_step_135 88 (by decide) ?_
      exact pw_weak (le_s (le_n (le_s le_0))) H
    · replace H := f_if H hc
      refine r_aload_n (M := m_X3_step) (pc := 111) dX3_step_111 2 rfl rfl ?_
      refine r_aload_n (M := m_X3_step) (pc := 112) dX3_step_112 0 rfl rfl ?_
      refine r_aload_n (M := m_X3_step) (pc := 113) dX3_step_113 0 rfl rfl ?_
      obtain ⟨a41, fs42, x40, e9, h43, h43v, H⟩ := H; cases e9
      refine r_get (M := m_X3_step) (pc := 114) dX3_step_114 "VersionSearch$Reader" 8 2 _ rfl (Nat.le_of_ble_eq_true rfl) q551 (Or.inl rfl) h43 (Nat.le_of_ble_eq_true rfl) h43v ?_
      obtain ⟨a46, us47, e9, h48, H⟩ := H; cases e9
      refine r_P (M := m_X3_step) (pc := 117) dX3_step_117 m_X3_at k_X3_at q322 q324 q318 rfl q323 8 _ rfl (av := [.int _]) (dy := d) n_X3_at h48 rfl (pw_c4 (Nat.le_of_ble_eq_true rfl)) (Nat.le_refl _) (H.mono (pw_nx_i (fun x45 w44 H1 => ?_)))
      replace H := H1; clear H1
      refine r_i2c (M := m_X3_step) (pc := 120) dX3_step_120 ?_
      obtain ⟨a51, us52, e9, h53, H⟩ := H; cases e9
      refine r_V (M := m_X3_step) (pc := 121) dX3_step_121 m_J5_append k_J5_append q369 q370 20 _ rfl q371 (av := [.int _]) (dy := d) n_J5_append h53 rfl (pw_c4 (Nat.le_of_ble_eq_true rfl)) (Nat.le_refl _) (H.mono (pw_nx_r (fun o50 w49 H1 => ?_)))
      replace H := H1; clear H1
      refine r_pop (M := m_X3_step) (pc := 124) dX3_step_124 (pw_cat_rf _) ?_
      refine r_aload_n (M := m_X3_step) (pc := 125) dX3_step_125 0 rfl rfl ?_
      refine r_dup (M := m_X3_step) (pc := 126) dX3_step_126 (pw_cat_rf _) ?_
      obtain ⟨a55, fs56, x54, e9, h57, h57v, H⟩ := H; cases e9
      refine r_get (M := m_X3_step) (pc := 127) dX3_step_127 "VersionSearch$Reader" 8 2 _ rfl (Nat.le_of_ble_eq_true rfl) q551 (Or.inl rfl) h57 (Nat.le_of_ble_eq_true rfl) h57v ?_
      refine r_iconst (M := m_X3_step) (pc := 130) dX3_step_130 1 rfl ?_
      refine r_iadd (M := m_X3_step) (pc := 131) dX3_step_131 ?_
      obtain ⟨a58, fs59, e9, h60, h60b, H⟩ := H; cases e9
      refine r_put (M := m_X3_step) (pc := 132) dX3_step_132 "VersionSearch$Reader" 8 2 _ rfl (Nat.le_of_ble_eq_true rfl) q551 (Or.inl rfl) rfl h60 (Nat.le_of_ble_eq_true rfl) h60b rfl rfl ?_
      refine r_goto (M := m_X3_step) (pc := 135) dX3_step_135 88 (by decide) ?_
      exact pw_weak (le_s (le_n (le_s le_0))) H
theorem s_X3_step_k8_168 {E : pw_E} {d : Nat} {w : pw_W} {Post : pw_R → pw_W → Prop} (v0 : Option Nat) (H : f_geti w v0 8 2 (fun x1 => f_V E w v0 8 m_X3_at d [.int x1] (c_i (fun x6 w5 => pw_Cl E m_X3_isDigit d [.int x6] w5 (c_z (fun b11 w10 => (if (bI b11) = 0 then f_geti w10 v0 8 2 (fun x12 => f_geti w10 v0 8 3 (fun x16 => (if (x12 - x16) ≤ 2 then f_str E 15 (fun x20 => f_put E w10 v0 8 5 (va_rf x20) (fun w25 => Post (.inl none) w25)) else f_str E 14 (fun x26 => f_put E w10 v0 8 5 (va_rf x26) (fun w31 => Post (.inl none) w31))))) else f_geti w10 v0 8 2 (fun x32 => f_geti w10 v0 8 3 (fun x36 => (if 2 ≤ (x32 - x36) then f_geti w10 v0 8 2 (fun x40 => f_put E w10 v0 8 2 (.int (x40 + 1)) (fun w47 => pw_Wp E m_X3_step (d + 1) 168 [some (va_rf v0), none, none] [] w47 Post)) else f_geti w10 v0 8 4 (fun x48 => f_geti w10 v0 8 2 (fun x52 => f_V E w10 v0 8 m_X3_at d [.int x52] (c_i (fun x57 w56 => f_put E w56 v0 8 4 (.int (((10 * x48) + x57) - 48)) (fun w64 => f_geti w64 v0 8 2 (fun x65 => f_put E w64 v0 8 2 (.int (x65 + 1)) (fun w72 => pw_Wp E m_X3_step (d + 1) 168 [some (va_rf v0), none, none] [] w72 Post))))))))))))))))) : pw_Wp E m_X3_step (d + 1) 168 [some (va_rf v0), none, none] [] w Post := by
  refine r_aload_n (M := m_X3_step) (pc := 168) dX3_step_168 0 rfl rfl ?_
  refine r_aload_n (M := m_X3_step) (pc := 169) dX3_step_169 0 rfl rfl ?_
  obtain ⟨a2, fs3, x1, e9, h4, h4v, H⟩ := H; cases e9
  refine r_get (M := m_X3_step) (pc := 170) dX3_step_170 "VersionSearch$Reader" 8 2 _ rfl (Nat.le_of_ble_eq_true rfl) q551 (Or.inl rfl) h4 (Nat.le_of_ble_eq_true rfl) h4v ?_
  obtain ⟨a7, us8, e9, h9, H⟩ := H; cases e9
  refine r_P (M := m_X3_step) (pc := 173) dX3_step_173 m_X3_at k_X3_at q322 q324 q318 rfl q323 8 _ rfl (av := [.int _]) (dy := d) n_X3_at h9 rfl (pw_c4 (Nat.le_of_ble_eq_true rfl)) (Nat.le_refl _) (H.mono (pw_nx_i (fun x6 w5 H1 => ?_)))
  replace H := H1; clear H1
  refine r_S (M := m_X3_step) (pc := 176) dX3_step_176 m_X3_isDigit k_X3_isDigit q520 q521 (av := [.int _]) (dy := d) n_X3_isDigit rfl (pw_c4 (Nat.le_of_ble_eq_true rfl)) (Nat.le_refl _) (H.mono (pw_nx_z (fun b11 w10 H1 => ?_)))
  replace H := H1; clear H1
  refine r_if_eq (M := m_X3_step) (pc := 179) dX3_step_179 231 (by decide) (fun hc => ?_) (fun hc => ?_)
  · replace H := f_it H hc
    refine r_aload_n (M := m_X3_step) (pc := 231) dX3_step_231 0 rfl rfl ?_
    refine r_aload_n (M := m_X3_step) (pc := 232) dX3_step_232 0 rfl rfl ?_
    obtain ⟨a13, fs14, x12, e9, h15, h15v, H⟩ := H; cases e9
    refine r_get (M := m_X3_step) (pc := 233) dX3_step_233 "VersionSearch$Reader" 8 2 _ rfl (Nat.le_of_ble_eq_true rfl) q551 (Or.inl rfl) h15 (Nat.le_of_ble_eq_true rfl) h15v ?_
    refine r_aload_n (M := m_X3_step) (pc := 236) dX3_step_236 0 rfl rfl ?_
    obtain ⟨a17, fs18, x16, e9, h19, h19v, H⟩ := H; cases e9
    refine r_get (M := m_X3_step) (pc := 237) dX3_step_237 "VersionSearch$Reader" 8 3 _ rfl (Nat.le_of_ble_eq_true rfl) q552 (Or.inl rfl) h19 (Nat.le_of_ble_eq_true rfl) h19v ?_
    refine r_isub (M := m_X3_step) (pc := 240) dX3_step_240 ?_
    refine r_iconst (M := m_X3_step) (pc := 241) dX3_step_241 2 rfl ?_
    refine r_icmp_le (M := m_X3_step) (pc := 242) dX3_step_242 251 (by decide) (fun hc => ?_) (fun hc => ?_)
    · replace H := f_it H hc
      obtain ⟨x20, h21, H⟩ := H
      refine r_getstatic (M := m_X3_step) (pc := 251) dX3_step_251 15 _ rfl q525 h21 ?_
      obtain ⟨a22, fs23, e9, h24, h24b, H⟩ := H; cases e9
      refine r_put (M := m_X3_step) (pc := 254) dX3_step_254 "VersionSearch$Reader" 8 5 _ rfl (Nat.le_of_ble_eq_true rfl) q554 (Or.inl rfl) rfl h24 (Nat.le_of_ble_eq_true rfl) h24b (nar_ro _ _) (fit_ro _ _) ?_
      refine r_goto (M := m_X3_step) (pc := 257) dX3_step_257 289 (by decide) ?_
      exact r_return (M := m_X3_step) (pc := 289) dX3_step_289 rfl H
    · replace H := f_if H hc
      obtain ⟨x26, h27, H⟩ := H
      refine r_getstatic (M := m_X3_step) (pc := 245) dX3_step_245 14 _ rfl q523 h27 ?_
      refine r_goto (M := m_X3_step) (pc := 248) dX3_step_248 254 (by decide) ?_
      obtain ⟨a28, fs29, e9, h30, h30b, H⟩ := H; cases e9
      refine r_put (M := m_X3_step) (pc := 254) dX3_step_254 "VersionSearch$Reader" 8 5 _ rfl (Nat.le_of_ble_eq_true rfl) q554 (Or.inl rfl) rfl h30 (Nat.le_of_ble_eq_true rfl) h30b (nar_ro _ _) (fit_ro _ _) ?_
      refine r_goto (M := m_X3_step) (pc := 257) dX3_step_257 289 (by decide) ?_
      exact r_return (M := m_X3_step) (pc := 289) dX3_step_289 rfl H
  · replace H := f_if H hc
    refine r_aload_n (M := m_X3_step) (pc := 182) dX3_step_182 0 rfl rfl ?_
    obtain ⟨a33, fs34, x32, e9, h35, h35v, H⟩ := H; cases e9
    refine r_get (M := m_X3_step) (pc := 183) dX3_step_183 "VersionSearch$Reader" 8 2 _ rfl (Nat.le_of_ble_eq_true rfl) q551 (Or.inl rfl) h35 (Nat.le_of_ble_eq_true rfl) h35v ?_
    refine r_aload_n (M := m_X3_step) (pc := 186) dX3_step_186 0 rfl rfl ?_
    obtain ⟨a37, fs38, x36, e9, h39, h39v, H⟩ := H; cases e9
    refine r_get (M := m_X3_step) (pc := 187) dX3_step_187 "VersionSearch$Reader" 8 3 _ rfl (Nat.le_of_ble_eq_true rfl) q552 (Or.inl rfl) h39 (Nat.le_of_ble_eq_true rfl) h39v ?_
    refine r_isub (M := m_X3_step) (pc := 190) dX3_step_190 ?_
    refine r_iconst (M := m_X3_step) (pc := 191) dX3_step_191 2 rfl ?_
    refine r_icmp_ge (M := m_X3_step) (pc := 192) dX3_step_192 218 (by decide) (fun hc => ?_) (fun hc => ?_)
    · replace H := f_it H hc
      refine r_aload_n (M := m_X3_step) (pc := 218) dX3_step_218 0 rfl rfl ?_
      refine r_dup (M := m_X3_step) (pc := 219) dX3_step_219 (pw_cat_rf _) ?_
      obtain ⟨a41, fs42, x40, e9, h43, h43v, H⟩ := H; cases e9
      refine r_get (M := m_X3_step) (pc := 220) dX3_step_220 "VersionSearch$Reader" 8 2 _ rfl (Nat.le_of_ble_eq_true rfl) q551 (Or.inl rfl) h43 (Nat.le_of_ble_eq_true rfl) h43v ?_
      refine r_iconst (M := m_X3_step) (pc := 223) dX3_step_223 1 rfl ?_
      refine r_iadd (M := m_X3_step) (pc := 224) dX3_step_224 ?_
      obtain ⟨a44, fs45, e9, h46, h46b, H⟩ := H; cases e9
      refine r_put (M := m_X3_step) (pc := 225) dX3_step_225 "VersionSearch$Reader" 8 2 _ rfl (Nat.le_of_ble_eq_true rfl) q551 (Or.inl rfl) rfl h46 (Nat.le_of_ble_eq_true rfl) h46b rfl rfl ?_
      refine r_goto (M := m_X3_step) (pc := 228) dX3_step_228 168 (by decide) ?_
      exact pw_weak (le_s (le_n (le_n le_0))) H
    · replace H := f_if H hc
      refine r_aload_n (M := m_X3_step) (pc := 195) dX3_step_195 0 rfl rfl ?_
      refine r_bipush (M := m_X3_step) (pc := 196) dX3_step_196 10 rfl ?_
      refine r_aload_n (M := m_X3_step) (pc := 198) dX3_step_198 0 rfl rfl ?_
      obtain ⟨a49, fs50, x48, e9, h51, h51v, H⟩ := H; cases e9
      refine r_get (M := m_X3_step) (pc := 199) dX3_step_199 "VersionSearch$Reader" 8 4 _ rfl (Nat.le_of_ble_eq_true rfl) q553 (Or.inl rfl) h51 (Nat.le_of_ble_eq_true rfl) h51v ?_
      refine r_imul (M := m_X3_step) (pc := 202) dX3_step_202 ?_
      refine r_aload_n (M := m_X3_step) (pc := 203) dX3_step_203 0 rfl rfl ?_
      refine r_aload_n (M := m_X3_step) (pc := 204) dX3_step_204 0 rfl rfl ?_
      obtain ⟨a53, fs54, x52, e9, h55, h55v, H⟩ := H; cases e9
      refine r_get (M := m_X3_step) (pc := 205) dX3_step_205 "VersionSearch$Reader" 8 2 _ rfl (Nat.le_of_ble_eq_true rfl) q551 (Or.inl rfl) h55 (Nat.le_of_ble_eq_true rfl) h55v ?_
      obtain ⟨a58, us59, e9, h60, H⟩ := H; cases e9
      refine r_P (M := m_X3_step) (pc := 208) dX3_step_208 m_X3_at k_X3_at q322 q324 q318 rfl q323 8 _ rfl (av := [.int _]) (dy := d) n_X3_at h60 rfl (pw_c4 (Nat.le_of_ble_eq_true rfl)) (Nat.le_refl _) (H.mono (pw_nx_i (fun x57 w56 H1 => ?_)))
      replace H := H1; clear H1
      refine r_iadd (M := m_X3_step) (pc := 211) dX3_step_211 ?_
      refine r_bipush (M := m_X3_step) (pc := 212) dX3_step_212 48 rfl ?_
      refine r_isub (M := m_X3_step) (pc := 214) dX3_step_214 ?_
      obtain ⟨a61, fs62, e9, h63, h63b, H⟩ := H; cases e9
      refine r_put (M := m_X3_step) (pc := 215) dX3_step_215 "VersionSearch$Reader" 8 4 _ rfl (Nat.le_of_ble_eq_true rfl) q553 (Or.inl rfl) rfl h63 (Nat.le_of_ble_eq_true rfl) h63b rfl rfl ?_
      refine r_aload_n (M := m_X3_step) (pc := 218) dX3_step_218 0 rfl rfl ?_
      refine r_dup (M := m_X3_step) (pc := 219) dX3_step_219 (pw_cat_rf _) ?_
      obtain ⟨a66, fs67, x65, e9, h68, h68v, H⟩ := H; cases e9
      refine r_get (M := m_X3_step) (pc := 220) dX3_step_220 "VersionSearch$Reader" 8 2 _ rfl (Nat.le_of_ble_eq_true rfl) q551 (Or.inl rfl) h68 (Nat.le_of_ble_eq_true rfl) h68v ?_
      refine r_iconst (M := m_X3_step) (pc := 223) dX3_step_223 1 rfl ?_
      refine r_iadd (M := m_X3_step) (pc := 224) dX3_step_224 ?_
      obtain ⟨a69, fs70, e9, h71, h71b, H⟩ := H; cases e9
      refine r_put (M := m_X3_step) (pc := 225) dX3_step_225 "VersionSearch$Reader" 8 2 _ rfl (Nat.le_of_ble_eq_true rfl) q551 (Or.inl rfl) rfl h71 (Nat.le_of_ble_eq_true rfl) h71b rfl rfl ?_
      refine r_goto (M := m_X3_step) (pc := 228) dX3_step_228 168 (by decide) ?_
      exact pw_weak (le_s (le_n (le_n le_0))) H
theorem s_X3_step_k9_0 {E : pw_E} {d : Nat} {w : pw_W} {Post : pw_R → pw_W → Prop} (v0 : Option Nat) (H : f_geti w v0 9 2 (fun x1 => f_V E w v0 9 m_X3_at d [.int x1] (c_i (fun x6 w5 => (if x6 = 10 then f_geti w5 v0 9 2 (fun x10 => f_put E w5 v0 9 2 (.int (x10 + 1)) (fun w17 => pw_Wp E m_X3_step (d + 1) 0 [some (va_rf v0), none, none] [] w17 Post)) else f_geti w5 v0 9 2 (fun x18 => f_V E w5 v0 9 m_X3_at d [.int x18] (c_i (fun x23 w22 => (if x23 = 32 then f_geti w22 v0 9 2 (fun x80 => f_put E w22 v0 9 2 (.int (x80 + 1)) (fun w87 => pw_Wp E m_X3_step (d + 1) 0 [some (va_rf v0), none, none] [] w87 Post)) else f_geti w22 v0 9 2 (fun x27 => f_put E w22 v0 9 3 (.int x27) (fun w34 => f_geti w34 v0 9 2 (fun x35 => f_V E w34 v0 9 m_X3_at d [.int x35] (c_i (fun x40 w39 => (if x40 = (-1) then f_str E 12 (fun x74 => f_put E w39 v0 9 5 (va_rf x74) (fun w79 => Post (.inl none) w79)) else pw_Cl E m_X3_isLetter d [.int x40] w39 (c_z (fun b45 w44 => (if (bI b45) = 0 then pw_Cl E m_X3_isDigit d [.int x40] w44 (c_z (fun b47 w46 => (if (bI b47) = 0 then f_geti w46 v0 9 2 (fun x48 => f_put E w46 v0 9 2 (.int (x48 + 1)) (fun w55 => (if x40 = 59 then f_str E 16 (fun x62 => f_put E w55 v0 9 5 (va_rf x62) (fun w67 => Post (.inl none) w67)) else f_str E 14 (fun x56 => f_put E w55 v0 9 5 (va_rf x56) (fun w61 => Post (.inl none) w61))))) else f_put E w46 v0 9 4 (.int 0) (fun w71 => pw_Wp E m_X3_step (d + 1) 168 [some (va_rf v0), none, none] [] w71 Post)))) else (fun w72 => pw_Cl E m_J5_init d (va_rf (some w44.2.1) :: [.int 8]) w72 (c_v (fun w73 => pw_Wp E m_X3_step (d + 1) 88 [some (va_rf v0), none, some (va_rf (some w44.2.1))] [] w73 Post))) (pw_new w44 (20, [va_rf none, .int 0, .int 0, .int 0]) 4))))))))))))))))))) : pw_Wp E m_X3_step (d + 1) 0 [some (va_rf v0), none, none] [] w Post := by
  refine r_aload_n (M := m_X3_step) (pc := 0) dX3_step_0 0 rfl rfl ?_
  refine r_aload_n (M := m_X3_step) (pc := 1) dX3_step_1 0 rfl rfl ?_
  obtain ⟨a2, fs3, x1, e9, h4, h4v, H⟩ := H; cases e9
  refine r_get (M := m_X3_step) (pc := 2) dX3_step_2 "VersionSearch$Reader" 9 2 _ rfl (Nat.le_of_ble_eq_true rfl) q551 (Or.inl rfl) h4 (Nat.le_of_ble_eq_true rfl) h4v ?_
  obtain ⟨a7, us8, e9, h9, H⟩ := H; cases e9
  refine r_P (M := m_X3_step) (pc := 5) dX3_step_5 m_X3_at k_X3_at q322 q324 q318 rfl q323 9 _ rfl (av := [.int _]) (dy := d) n_X3_at h9 rfl (pw_c4 (Nat.le_of_ble_eq_true rfl)) (Nat.le_refl _) (H.mono (pw_nx_i (fun x6 w5 H1 => ?_)))
  replace H := H1; clear H1
  refine r_bipush (M := m_X3_step) (pc := 8) dX3_step_8 10 rfl ?_
  refine r_icmp_eq (M := m_X3_step) (pc := 10) dX3_step_10 26 (by decide) (fun hc => ?_) (fun hc => ?_)
  · replace H := f_it H hc
    refine r_aload_n (M := m_X3_step) (pc := 26) dX3_step_26 0 rfl rfl ?_
    refine r_dup (M := m_X3_step) (pc := 27) dX3_step_27 (pw_cat_rf _) ?_
    obtain ⟨a11, fs12, x10, e9, h13, h13v, H⟩ := H; cases e9
    refine r_get (M := m_X3_step) (pc := 28) dX3_step_28 "VersionSearch$Reader" 9 2 _ rfl (Nat.le_of_ble_eq_true rfl) q551 (Or.inl rfl) h13 (Nat.le_of_ble_eq_true rfl) h13v ?_
    refine r_iconst (M := m_X3_step) (pc := 31) dX3_step_31 1 rfl ?_
    refine r_iadd (M := m_X3_step) (pc := 32) dX3_step_32 ?_
    obtain ⟨a14, fs15, e9, h16, h16b, H⟩ := H; cases e9
    refine r_put (M := m_X3_step) (pc := 33) dX3_step_33 "VersionSearch$Reader" 9 2 _ rfl (Nat.le_of_ble_eq_true rfl) q551 (Or.inl rfl) rfl h16 (Nat.le_of_ble_eq_true rfl) h16b rfl rfl ?_
    refine r_goto (M := m_X3_step) (pc := 36) dX3_step_36 0 (by decide) ?_
    exact pw_weak (le_s (le_n (le_n le_0))) H
  · replace H := f_if H hc
    refine r_aload_n (M := m_X3_step) (pc := 13) dX3_step_13 0 rfl rfl ?_
    refine r_aload_n (M := m_X3_step) (pc := 14) dX3_step_14 0 rfl rfl ?_
    obtain ⟨a19, fs20, x18, e9, h21, h21v, H⟩ := H; cases e9
    refine r_get (M := m_X3_step) (pc := 15) dX3_step_15 "VersionSearch$Reader" 9 2 _ rfl (Nat.le_of_ble_eq_true rfl) q551 (Or.inl rfl) h21 (Nat.le_of_ble_eq_true rfl) h21v ?_
    obtain ⟨a24, us25, e9, h26, H⟩ := H; cases e9
    refine r_P (M := m_X3_step) (pc := 18) dX3_step_18 m_X3_at k_X3_at q322 q324 q318 rfl q323 9 _ rfl (av := [.int _]) (dy := d) n_X3_at h26 rfl (pw_c4 (Nat.le_of_ble_eq_true rfl)) (Nat.le_refl _) (H.mono (pw_nx_i (fun x23 w22 H1 => ?_)))
    replace H := H1; clear H1
    refine r_bipush (M := m_X3_step) (pc := 21) dX3_step_21 32 rfl ?_
    refine r_icmp_ne (M := m_X3_step) (pc := 23) dX3_step_23 39 (by decide) (fun hc => ?_) (fun hc => ?_)
    · replace H := f_if H hc
      refine r_aload_n (M := m_X3_step) (pc := 39) dX3_step_39 0 rfl rfl ?_
      refine r_aload_n (M := m_X3_step) (pc := 40) dX3_step_40 0 rfl rfl ?_
      obtain ⟨a28, fs29, x27, e9, h30, h30v, H⟩ := H; cases e9
      refine r_get (M := m_X3_step) (pc := 41) dX3_step_41 "VersionSearch$Reader" 9 2 _ rfl (Nat.le_of_ble_eq_true rfl) q551 (Or.inl rfl) h30 (Nat.le_of_ble_eq_true rfl) h30v ?_
      obtain ⟨a31, fs32, e9, h33, h33b, H⟩ := H; cases e9
      refine r_put (M := m_X3_step) (pc := 44) dX3_step_44 "VersionSearch$Reader" 9 3 _ rfl (Nat.le_of_ble_eq_true rfl) q552 (Or.inl rfl) rfl h33 (Nat.le_of_ble_eq_true rfl) h33b rfl rfl ?_
      refine r_aload_n (M := m_X3_step) (pc := 47) dX3_step_47 0 rfl rfl ?_
      refine r_aload_n (M := m_X3_step) (pc := 48) dX3_step_48 0 rfl rfl ?_
      obtain ⟨a36, fs37, x35, e9, h38, h38v, H⟩ := H; cases e9
      refine r_get (M := m_X3_step) (pc := 49) dX3_step_49 "VersionSearch$Reader" 9 2 _ rfl (Nat.le_of_ble_eq_true rfl) q551 (Or.inl rfl) h38 (Nat.le_of_ble_eq_true rfl) h38v ?_
      obtain ⟨a41, us42, e9, h43, H⟩ := H; cases e9
      refine r_P (M := m_X3_step) (pc := 52) dX3_step_52 m_X3_at k_X3_at q322 q324 q318 rfl q323 9 _ rfl (av := [.int _]) (dy := d) n_X3_at h43 rfl (pw_c4 (Nat.le_of_ble_eq_true rfl)) (Nat.le_refl _) (H.mono (pw_nx_i (fun x40 w39 H1 => ?_)))
      replace H := H1; clear H1
      refine r_istore_n (M := m_X3_step) (pc := 55) dX3_step_55 1 rfl (Nat.le_of_ble_eq_true rfl) (pw_pre_rf rfl) ?_
      refine r_iload_n (M := m_X3_step) (pc := 56) dX3_step_56 1 rfl rfl ?_
      refine r_iconst (M := m_X3_step) (pc := 57) dX3_step_57 (-1) rfl ?_
      refine r_icmp_ne (M := m_X3_step) (pc := 58) dX3_step_58 71 (by decide) (fun hc => ?_) (fun hc => ?_)
      · replace H := f_if H hc
        refine r_iload_n (M := m_X3_step) (pc := 71) dX3_step_71 1 rfl rfl ?_
        refine r_S (M := m_X3_step) (pc := 72) dX3_step_72 m_X3_isLetter k_X3_isLetter q328 q329 (av := [.int _]) (dy := d) n_X3_isLetter rfl (pw_c4 (Nat.le_of_ble_eq_true rfl)) (Nat.le_refl _) (H.mono (pw_nx_z (fun b45 w44 H1 => ?_)))
        replace H := H1; clear H1
        refine r_if_eq (M := m_X3_step) (pc := 75) dX3_step_75 156 (by decide) (fun hc => ?_) (fun hc => ?_)
        · replace H := f_it H hc
          refine r_iload_n (M := m_X3_step) (pc := 156) dX3_step_156 1 rfl rfl ?_
          refine r_S (M := m_X3_step) (pc := 157) dX3_step_157 m_X3_isDigit k_X3_isDigit q520 q521 (av := [.int _]) (dy := d) n_X3_isDigit rfl (pw_c4 (Nat.le_of_ble_eq_true rfl)) (Nat.le_refl _) (H.mono (pw_nx_z (fun b47 w46 H1 => ?_)))
          replace H := H1; clear H1
          refine r_if_eq (M := m_X3_step) (pc := 160) dX3_step_160 260 (by decide) (fun hc => ?_) (fun hc => ?_)
          · replace H := f_it H hc
            refine r_aload_n (M := m_X3_step) (pc := 260) dX3_step_260 0 rfl rfl ?_
            refine r_dup (M := m_X3_step) (pc := 261) dX3_step_261 (pw_cat_rf _) ?_
            obtain ⟨a49, fs50, x48, e9, h51, h51v, H⟩ := H; cases e9
            refine r_get (M := m_X3_step) (pc := 262) dX3_step_262 "VersionSearch$Reader" 9 2 _ rfl (Nat.le_of_ble_eq_true rfl) q551 (Or.inl rfl) h51 (Nat.le_of_ble_eq_true rfl) h51v ?_
            refine r_iconst (M := m_X3_step) (pc := 265) dX3_step_265 1 rfl ?_
            refine r_iadd (M := m_X3_step) (pc := 266) dX3_step_266 ?_
            obtain ⟨a52, fs53, e9, h54, h54b, H⟩ := H; cases e9
            refine r_put (M := m_X3_step) (pc := 267) dX3_step_267 "VersionSearch$Reader" 9 2 _ rfl (Nat.le_of_ble_eq_true rfl) q551 (Or.inl rfl) rfl h54 (Nat.le_of_ble_eq_true rfl) h54b rfl rfl ?_
            refine r_aload_n (M := m_X3_step) (pc := 270) dX3_step_270 0 rfl rfl ?_
            refine r_iload_n (M := m_X3_step) (pc := 271) dX3_step_271 1 rfl rfl ?_
            refine r_bipush (M := m_X3_step) (pc := 272) dX3_step_272 59 rfl ?_
            refine r_icmp_ne (M := m_X3_step) (pc := 274) dX3_step_274 283 (by decide) (fun hc => ?_) (fun hc => ?_)
            · replace H := f_if H hc
              obtain ⟨x56, h57, H⟩ := H
              refine r_getstatic (M := m_X3_step) (pc := 283) dX3_step_283 14 _ rfl q523 h57 ?_
              obtain ⟨a58, fs59, e9, h60, h60b, H⟩ := H; cases e9
              refine r_put (M := m_X3_step) (pc := 286) dX3_step_286 "VersionSearch$Reader" 9 5 _ rfl (Nat.le_of_ble_eq_true rfl) q554 (Or.inl rfl) rfl h60 (Nat.le_of_ble_eq_true rfl) h60b (nar_ro _ _) (fit_ro _ _) ?_
              exact r_return (M := m_X3_step) (pc := 289) dX3_step_289 rfl H
            · replace H := f_it H hc
              obtain ⟨x62, h63, H⟩ := H
              refine r_getstatic (M := m_X3_step) (pc := 277) dX3_step_277 16 _ rfl q527 h63 ?_
              refine r_goto (M := m_X3_step) (pc := 280) dX3_step_280 286 (by decide) ?_
              obtain ⟨a64, fs65, e9, h66, h66b, H⟩ := H; cases e9
              refine r_put (M := m_X3_step) (pc := 286) dX3_step_286 "VersionSearch$Reader" 9 5 _ rfl (Nat.le_of_ble_eq_true rfl) q554 (Or.inl rfl) rfl h66 (Nat.le_of_ble_eq_true rfl) h66b (nar_ro _ _) (fit_ro _ _) ?_
              exact r_return (M := m_X3_step) (pc := 289) dX3_step_289 rfl H
          · replace H := f_if H hc
            refine r_aload_n (M := m_X3_step) (pc := 163) dX3_step_163 0 rfl rfl ?_
            refine r_iconst (M := m_X3_step) (pc := 164) dX3_step_164 0 rfl ?_
            obtain ⟨a68, fs69, e9, h70, h70b, H⟩ := H; cases e9
            refine r_put (M := m_X3_step) (pc := 165) dX3_step_165 "VersionSearch$Reader" 9 4 _ rfl (Nat.le_of_ble_eq_true rfl) q553 (Or.inl rfl) rfl h70 (Nat.le_of_ble_eq_true rfl) h70b rfl rfl ?_
            exact pw_weak (le_s (le_n (le_n le_0))) H
        · replace H := f_if H hc
          refine r_new (M := m_X3_step) (pc := 78) dX3_step_78 20 _ rfl (Nat.le_of_ble_eq_true rfl) q331 q332 q145 [va_rf none, .int 0, .int 0, .int 0] rfl 4 rfl ?_
          refine r_dup (M := m_X3_step) (pc := 81) dX3_step_81 (pw_cat_rf _) ?_
          refine r_bipush (M := m_X3_step) (pc := 82) dX3_step_82 8 rfl ?_
          refine r_I (M := m_X3_step) (pc := 84) dX3_step_84 m_J5_init k_J5_init rfl rfl q333 q334 (av := [.int _]) (dy := d) n_J5_init rfl (pw_c4 (Nat.le_of_ble_eq_true rfl)) (Nat.le_refl _) (H.mono (pw_nx_v (fun w73 H1 => ?_)))
          replace H := H1; clear H1
          refine r_astore_n (M := m_X3_step) (pc := 87) dX3_step_87 2 rfl (Nat.le_of_ble_eq_true rfl) rfl ?_
          exact pw_weak (le_s (le_n (le_s le_0))) H
      · replace H := f_it H hc
        refine r_aload_n (M := m_X3_step) (pc := 61) dX3_step_61 0 rfl rfl ?_
        obtain ⟨x74, h75, H⟩ := H
        refine r_getstatic (M := m_X3_step) (pc := 62) dX3_step_62 12 _ rfl q326 h75 ?_
        obtain ⟨a76, fs77, e9, h78, h78b, H⟩ := H; cases e9
        refine r_put (M := m_X3_step) (pc := 65) dX3_step_65 "VersionSearch$Reader" 9 5 _ rfl (Nat.le_of_ble_eq_true rfl) q554 (Or.inl rfl) rfl h78 (Nat.le_of_ble_eq_true rfl) h78b (nar_ro _ _) (fit_ro _ _) ?_
        refine r_goto (M := m_X3_step) (pc := 68) dX3_step_68 289 (by decide) ?_
        exact r_return (M := m_X3_step) (pc := 289) dX3_step_289 rfl H
    · replace H := f_it H hc
      refine r_aload_n (M := m_X3_step) (pc := 26) dX3_step_26 0 rfl rfl ?_
      refine r_dup (M := m_X3_step) (pc := 27) dX3_step_27 (pw_cat_rf _) ?_
      obtain ⟨a81, fs82, x80, e9, h83, h83v, H⟩ := H; cases e9
      refine r_get (M := m_X3_step) (pc := 28) dX3_step_28 "VersionSearch$Reader" 9 2 _ rfl (Nat.le_of_ble_eq_true rfl) q551 (Or.inl rfl) h83 (Nat.le_of_ble_eq_true rfl) h83v ?_
      refine r_iconst (M := m_X3_step) (pc := 31) dX3_step_31 1 rfl ?_
      refine r_iadd (M := m_X3_step) (pc := 32) dX3_step_32 ?_
      obtain ⟨a84, fs85, e9, h86, h86b, H⟩ := H; cases e9
      refine r_put (M := m_X3_step) (pc := 33) dX3_step_33 "VersionSearch$Reader" 9 2 _ rfl (Nat.le_of_ble_eq_true rfl) q551 (Or.inl rfl) rfl h86 (Nat.le_of_ble_eq_true rfl) h86b rfl rfl ?_
      refine r_goto (M := m_X3_step) (pc := 36) dX3_step_36 0 (by decide) ?_
      exact pw_weak (le_s (le_n (le_n le_0))) H
theorem s_X3_step_k9_88 {E : pw_E} {d : Nat} {w : pw_W} {Post : pw_R → pw_W → Prop} (v0 : Option Nat) (v2 : Option Nat) (H : f_geti w v0 9 2 (fun x1 => f_V E w v0 9 m_X3_at d [.int x1] (c_i (fun x6 w5 => pw_Cl E m_X3_isLetter d [.int x6] w5 (c_z (fun b11 w10 => (if (bI b11) = 0 then f_V E w10 v2 20 m_J5_toString d [] (c_r (fun o13 w12 => f_put E w12 v0 9 6 (va_rf o13) (fun w20 => f_str E 13 (fun x21 => f_put E w20 v0 9 5 (va_rf x21) (fun w26 => Post (.inl none) w26))))) else f_V E w10 v2 20 m_J5_length d [] (c_i (fun x28 w27 => (if 7 ≤ x28 then f_geti w27 v0 9 2 (fun x32 => f_put E w27 v0 9 2 (.int (x32 + 1)) (fun w39 => pw_Wp E m_X3_step (d + 1) 88 [some (va_rf v0), none, some (va_rf v2)] [] w39 Post)) else f_geti w27 v0 9 2 (fun x40 => f_V E w27 v0 9 m_X3_at d [.int x40] (c_i (fun x45 w44 => f_V E w44 v2 20 m_J5_append d [.int ((x45.toUInt32 % 65536).toInt32)] (c_r (fun o50 w49 => f_geti w49 v0 9 2 (fun x54 => f_put E w49 v0 9 2 (.int (x54 + 1)) (fun w61 => pw_Wp E m_X3_step (d + 1) 88 [some (va_rf v0), none, some (va_rf v2)] [] w61 Post))))))))))))))))) : pw_Wp E m_X3_step (d + 1) 88 [some (va_rf v0), none, some (va_rf v2)] [] w Post := by
  refine r_aload_n (M := m_X3_step) (pc := 88) dX3_step_88 0 rfl rfl ?_
  refine r_aload_n (M := m_X3_step) (pc := 89) dX3_step_89 0 rfl rfl ?_
  obtain ⟨a2, fs3, x1, e9, h4, h4v, H⟩ := H; cases e9
  refine r_get (M := m_X3_step) (pc := 90) dX3_step_90 "VersionSearch$Reader" 9 2 _ rfl (Nat.le_of_ble_eq_true rfl) q551 (Or.inl rfl) h4 (Nat.le_of_ble_eq_true rfl) h4v ?_
  obtain ⟨a7, us8, e9, h9, H⟩ := H; cases e9
  refine r_P (M := m_X3_step) (pc := 93) dX3_step_93 m_X3_at k_X3_at q322 q324 q318 rfl q323 9 _ rfl (av := [.int _]) (dy := d) n_X3_at h9 rfl (pw_c4 (Nat.le_of_ble_eq_true rfl)) (Nat.le_refl _) (H.mono (pw_nx_i (fun x6 w5 H1 => ?_)))
  replace H := H1; clear H1
  refine r_S (M := m_X3_step) (pc := 96) dX3_step_96 m_X3_isLetter k_X3_isLetter q328 q329 (av := [.int _]) (dy := d) n_X3_isLetter rfl (pw_c4 (Nat.le_of_ble_eq_true rfl)) (Nat.le_refl _) (H.mono (pw_nx_z (fun b11 w10 H1 => ?_)))
  replace H := H1; clear H1
  refine r_if_eq (M := m_X3_step) (pc := 99) dX3_step_99 138 (by decide) (fun hc => ?_) (fun hc => ?_)
  · replace H := f_it H hc
    refine r_aload_n (M := m_X3_step) (pc := 138) dX3_step_138 0 rfl rfl ?_
    refine r_aload_n (M := m_X3_step) (pc := 139) dX3_step_139 2 rfl rfl ?_
    obtain ⟨a14, us15, e9, h16, H⟩ := H; cases e9
    refine r_V (M := m_X3_step) (pc := 140) dX3_step_140 m_J5_toString k_J5_toString q464 q465 20 _ rfl q466 (av := []) (dy := d) n_J5_toString h16 rfl (pw_c4 (Nat.le_of_ble_eq_true rfl)) (Nat.le_refl _) (H.mono (pw_nx_r (fun o13 w12 H1 => ?_)))
    replace H := H1; clear H1
    obtain ⟨a17, fs18, e9, h19, h19b, H⟩ := H; cases e9
    refine r_put (M := m_X3_step) (pc := 143) dX3_step_143 "VersionSearch$Reader" 9 6 _ rfl (Nat.le_of_ble_eq_true rfl) q555 (Or.inl rfl) rfl h19 (Nat.le_of_ble_eq_true rfl) h19b (nar_ro _ _) (fit_ro _ _) ?_
    refine r_aload_n (M := m_X3_step) (pc := 146) dX3_step_146 0 rfl rfl ?_
    obtain ⟨x21, h22, H⟩ := H
    refine r_getstatic (M := m_X3_step) (pc := 147) dX3_step_147 13 _ rfl q518 h22 ?_
    obtain ⟨a23, fs24, e9, h25, h25b, H⟩ := H; cases e9
    refine r_put (M := m_X3_step) (pc := 150) dX3_step_150 "VersionSearch$Reader" 9 5 _ rfl (Nat.le_of_ble_eq_true rfl) q554 (Or.inl rfl) rfl h25 (Nat.le_of_ble_eq_true rfl) h25b (nar_ro _ _) (fit_ro _ _) ?_
    refine r_goto (M := m_X3_step) (pc := 153) dX3_step_153 289 (by decide) ?_
    exact r_return (M := m_X3_step) (pc := 289) dX3_step_289 rfl H
  · replace H := f_if H hc
    refine r_aload_n (M := m_X3_step) (pc := 102) dX3_step_102 2 rfl rfl ?_
    obtain ⟨a29, us30, e9, h31, H⟩ := H; cases e9
    refine r_V (M := m_X3_step) (pc := 103) dX3_step_103 m_J5_length k_J5_length q362 q363 20 _ rfl q364 (av := []) (dy := d) n_J5_length h31 rfl (pw_c4 (Nat.le_of_ble_eq_true rfl)) (Nat.le_refl _) (H.mono (pw_nx_i (fun x28 w27 H1 => ?_)))
    replace H := H1; clear H1
    refine r_bipush (M := m_X3_step) (pc := 106) dX3_step_106 7 rfl ?_
    refine r_icmp_ge (M := m_X3_step) (pc := 108) dX3_step_108 125 (by decide) (fun hc => ?_) (fun hc => ?_)
    · replace H := f_it H hc
      refine r_aload_n (M := m_X3_step) (pc := 125) dX3_step_125 0 rfl rfl ?_
      refine r_dup (M := m_X3_step) (pc := 126) dX3_step_126 (pw_cat_rf _) ?_
      obtain ⟨a33, fs34, x32, e9, h35, h35v, H⟩ := H; cases e9
      refine r_get (M := m_X3_step) (pc := 127) dX3_step_127 "VersionSearch$Reader" 9 2 _ rfl (Nat.le_of_ble_eq_true rfl) q551 (Or.inl rfl) h35 (Nat.le_of_ble_eq_true rfl) h35v ?_
      refine r_iconst (M := m_X3_step) (pc := 130) dX3_step_130 1 rfl ?_
      refine r_iadd (M := m_X3_step) (pc := 131) dX3_step_131 ?_
      obtain ⟨a36, fs37, e9, h38, h38b, H⟩ := H; cases e9
      refine r_put (M := m_X3_step) (pc := 132) dX3_step_132 "VersionSearch$Reader" 9 2 _ rfl (Nat.le_of_ble_eq_true rfl) q551 (Or.inl rfl) rfl h38 (Nat.le_of_ble_eq_true rfl) h38b rfl rfl ?_
      refine r_goto (M := m_X3_step) (pc := 135) dX3_step_135 88 (by decide) ?_
      exact pw_weak (le_s (le_n (le_s le_0))) H
    · replace H := f_if H hc
      refine r_aload_n (M := m_X3_step) (pc := 111) dX3_step_111 2 rfl rfl ?_
      refine r_aload_n (M := m_X3_step) (pc := 112) dX3_step_112 0 rfl rfl ?_
      refine r_aload_n (M := m_X3_step) (pc := 113) dX3_step_113 0 rfl rfl ?_
      obtain ⟨a41, fs42, x40, e9, h43, h43v, H⟩ := H; cases e9
      refine r_get (M := m_X3_step) (pc := 114) dX3_step_114 "VersionSearch$Reader" 9 2 _ rfl (Nat.le_of_ble_eq_true rfl) q551 (Or.inl rfl) h43 (Nat.le_of_ble_eq_true rfl) h43v ?_
      obtain ⟨a46, us47, e9, h48, H⟩ := H; cases e9
      refine r_P (M := m_X3_step) (pc := 117) dX3_step_117 m_X3_at k_X3_at q322 q324 q318 rfl q323 9 _ rfl (av := [.int _]) (dy := d) n_X3_at h48 rfl (pw_c4 (Nat.le_of_ble_eq_true rfl)) (Nat.le_refl _) (H.mono (pw_nx_i (fun x45 w44 H1 => ?_)))
      replace H := H1; clear H1
      refine r_i2c (M := m_X3_step) (pc := 120) dX3_step_120 ?_
      obtain ⟨a51, us52, e9, h53, H⟩ := H; cases e9
      refine r_V (M := m_X3_step) (pc := 121) dX3_step_121 m_J5_append k_J5_append q369 q370 20 _ rfl q371 (av := [.int _]) (dy := d) n_J5_append h53 rfl (pw_c4 (Nat.le_of_ble_eq_true rfl)) (Nat.le_refl _) (H.mono (pw_nx_r (fun o50 w49 H1 => ?_)))
      replace H := H1; clear H1
      refine r_pop (M := m_X3_step) (pc := 124) dX3_step_124 (pw_cat_rf _) ?_
      refine r_aload_n (M := m_X3_step) (pc := 125) dX3_step_125 0 rfl rfl ?_
      refine r_dup (M := m_X3_step) (pc := 126) dX3_step_126 (pw_cat_rf _) ?_
      obtain ⟨a55, fs56, x54, e9, h57, h57v, H⟩ := H; cases e9
      refine r_get (M := m_X3_step) (pc := 127) dX3_step_127 "VersionSearch$Reader" 9 2 _ rfl (Nat.le_of_ble_eq_true rfl) q551 (Or.inl rfl) h57 (Nat.le_of_ble_eq_true rfl) h57v ?_
      refine r_iconst (M := m_X3_step) (pc := 130) dX3_step_130 1 rfl ?_
      refine r_iadd (M := m_X3_step) (pc := 131) dX3_step_131 ?_
      obtain ⟨a58, fs59, e9, h60, h60b, H⟩ := H; cases e9
      refine r_put (M := m_X3_step) (pc := 132) dX3_step_132 "VersionSearch$Reader" 9 2 _ rfl (Nat.le_of_ble_eq_true rfl) q551 (Or.inl rfl) rfl h60 (Nat.le_of_ble_eq_true rfl) h60b rfl rfl ?_
      refine r_goto (M := m_X3_step) (pc := 135) dX3_step_135 88 (by decide) ?_
      exact pw_weak (le_s (le_n (le_s le_0))) H
theorem s_X3_step_k9_168 {E : pw_E} {d : Nat} {w : pw_W} {Post : pw_R → pw_W → Prop} (v0 : Option Nat) (H : f_geti w v0 9 2 (fun x1 => f_V E w v0 9 m_X3_at d [.int x1] (c_i (fun x6 w5 => pw_Cl E m_X3_isDigit d [.int x6] w5 (c_z (fun b11 w10 => (if (bI b11) = 0 then f_geti w10 v0 9 2 (fun x12 => f_geti w10 v0 9 3 (fun x16 => (if (x12 - x16) ≤ 2 then f_str E 15 (fun x20 => f_put E w10 v0 9 5 (va_rf x20) (fun w25 => Post (.inl none) w25)) else f_str E 14 (fun x26 => f_put E w10 v0 9 5 (va_rf x26) (fun w31 => Post (.inl none) w31))))) else f_geti w10 v0 9 2 (fun x32 => f_geti w10 v0 9 3 (fun x36 => (if 2 ≤ (x32 - x36) then f_geti w10 v0 9 2 (fun x40 => f_put E w10 v0 9 2 (.int (x40 + 1)) (fun w47 => pw_Wp E m_X3_step (d + 1) 168 [some (va_rf v0), none, none] [] w47 Post)) else f_geti w10 v0 9 4 (fun x48 => f_geti w10 v0 9 2 (fun x52 => f_V E w10 v0 9 m_X3_at d [.int x52] (c_i (fun x57 w56 => f_put E w56 v0 9 4 (.int (((10 * x48) + x57) - 48)) (fun w64 => f_geti w64 v0 9 2 (fun x65 => f_put E w64 v0 9 2 (.int (x65 + 1)) (fun w72 => pw_Wp E m_X3_step (d + 1) 168 [some (va_rf v0), none, none] [] w72 Post))))))))))))))))) : pw_Wp E m_X3_step (d + 1) 168 [some (va_rf v0), none, none] [] w Post := by
  refine r_aload_n (M := m_X3_step) (pc := 168) dX3_step_168 0 rfl rfl ?_
  refine r_aload_n (M := m_X3_step) (pc := 169) dX3_step_169 0 rfl rfl ?_
  obtain ⟨a2, fs3, x1, e9, h4, h4v, H⟩ := H; cases e9
  refine r_get (M := m_X3_step) (pc := 170) dX3_step_170 "VersionSearch$Reader" 9 2 _ rfl (Nat.le_of_ble_eq_true rfl) q551 (Or.inl rfl) h4 (Nat.le_of_ble_eq_true rfl) h4v ?_
  obtain ⟨a7, us8, e9, h9, H⟩ := H; cases e9
  refine r_P (M := m_X3_step) (pc := 173) dX3_step_173 m_X3_at k_X3_at q322 q324 q318 rfl q323 9 _ rfl (av := [.int _]) (dy := d) n_X3_at h9 rfl (pw_c4 (Nat.le_of_ble_eq_true rfl)) (Nat.le_refl _) (H.mono (pw_nx_i (fun x6 w5 H1 => ?_)))
  replace H := H1; clear H1
  refine r_S (M := m_X3_step) (pc := 176) dX3_step_176 m_X3_isDigit k_X3_isDigit q520 q521 (av := [.int _]) (dy := d) n_X3_isDigit rfl (pw_c4 (Nat.le_of_ble_eq_true rfl)) (Nat.le_refl _) (H.mono (pw_nx_z (fun b11 w10 H1 => ?_)))
  replace H := H1; clear H1
  refine r_if_eq (M := m_X3_step) (pc := 179) dX3_step_179 231 (by decide) (fun hc => ?_) (fun hc => ?_)
  · replace H := f_it H hc
    refine r_aload_n (M := m_X3_step) (pc := 231) dX3_step_231 0 rfl rfl ?_
    refine r_aload_n (M := m_X3_step) (pc := 232) dX3_step_232 0 rfl rfl ?_
    obtain ⟨a13, fs14, x12, e9, h15, h15v, H⟩ := H; cases e9
    refine r_get (M := m_X3_step) (pc := 233) dX3_step_233 "VersionSearch$Reader" 9 2 _ rfl (Nat.le_of_ble_eq_true rfl) q551 (Or.inl rfl) h15 (Nat.le_of_ble_eq_true rfl) h15v ?_
    refine r_aload_n (M := m_X3_step) (pc := 236) dX3_step_236 0 rfl rfl ?_
    obtain ⟨a17, fs18, x16, e9, h19, h19v, H⟩ := H; cases e9
    refine r_get (M := m_X3_step) (pc := 237) dX3_step_237 "VersionSearch$Reader" 9 3 _ rfl (Nat.le_of_ble_eq_true rfl) q552 (Or.inl rfl) h19 (Nat.le_of_ble_eq_true rfl) h19v ?_
    refine r_isub (M := m_X3_step) (pc := 240) dX3_step_240 ?_
    refine r_iconst (M := m_X3_step) (pc := 241) dX3_step_241 2 rfl ?_
    refine r_icmp_le (M := m_X3_step) (pc := 242) dX3_step_242 251 (by decide) (fun hc => ?_) (fun hc => ?_)
    · replace H := f_it H hc
      obtain ⟨x20, h21, H⟩ := H
      refine r_getstatic (M := m_X3_step) (pc := 251) dX3_step_251 15 _ rfl q525 h21 ?_
      obtain ⟨a22, fs23, e9, h24, h24b, H⟩ := H; cases e9
      refine r_put (M := m_X3_step) (pc := 254) dX3_step_254 "VersionSearch$Reader" 9 5 _ rfl (Nat.le_of_ble_eq_true rfl) q554 (Or.inl rfl) rfl h24 (Nat.le_of_ble_eq_true rfl) h24b (nar_ro _ _) (fit_ro _ _) ?_
      refine r_goto (M := m_X3_step) (pc := 257) dX3_step_257 289 (by decide) ?_
      exact r_return (M := m_X3_step) (pc := 289) dX3_step_289 rfl H
    · replace H := f_if H hc
      obtain ⟨x26, h27, H⟩ := H
      refine r_getstatic (M := m_X3_step) (pc := 245) dX3_step_245 14 _ rfl q523 h27 ?_
      refine r_goto (M := m_X3_step) (pc := 248) dX3_step_248 254 (by decide) ?_
      obtain ⟨a28, fs29, e9, h30, h30b, H⟩ := H; cases e9
      refine r_put (M := m_X3_step) (pc := 254) dX3_step_254 "VersionSearch$Reader" 9 5 _ rfl (Nat.le_of_ble_eq_true rfl) q554 (Or.inl rfl) rfl h30 (Nat.le_of_ble_eq_true rfl) h30b (nar_ro _ _) (fit_ro _ _) ?_
      refine r_goto (M := m_X3_step) (pc := 257) dX3_step_257 289 (by decide) ?_
      exact r_return (M := m_X3_step) (pc := 289) dX3_step_289 rfl H
  · replace H := f_if H hc
    refine r_aload_n (M := m_X3_step) (pc := 182) dX3_step_182 0 rfl rfl ?_
    obtain ⟨a33, fs34, x32, e9, h35, h35v, H⟩ := H; cases e9
    refine r_get (M := m_X3_step) (pc := 183) dX3_step_183 "VersionSearch$Reader" 9 2 _ rfl (Nat.le_of_ble_eq_true rfl) q551 (Or.inl rfl) h35 (Nat.le_of_ble_eq_true rfl) h35v ?_
    refine r_aload_n (M := m_X3_step) (pc := 186) dX3_step_186 0 rfl rfl ?_
    obtain ⟨a37, fs38, x36, e9, h39, h39v, H⟩ := H; cases e9
    refine r_get (M := m_X3_step) (pc := 187) dX3_step_187 "VersionSearch$Reader" 9 3 _ rfl (Nat.le_of_ble_eq_true rfl) q552 (Or.inl rfl) h39 (Nat.le_of_ble_eq_true rfl) h39v ?_
    refine r_isub (M := m_X3_step) (pc := 190) dX3_step_190 ?_
    refine r_iconst (M := m_X3_step) (pc := 191) dX3_step_191 2 rfl ?_
    refine r_icmp_ge (M := m_X3_step) (pc := 192) dX3_step_192 218 (by decide) (fun hc => ?_) (fun hc => ?_)
    · replace H := f_it H hc
      refine r_aload_n (M := m_X3_step) (pc := 218) dX3_step_218 0 rfl rfl ?_
      refine r_dup (M := m_X3_step) (pc := 219) dX3_step_219 (pw_cat_rf _) ?_
      obtain ⟨a41, fs42, x40, e9, h43, h43v, H⟩ := H; cases e9
      refine r_get (M := m_X3_step) (pc := 220) dX3_step_220 "VersionSearch$Reader" 9 2 _ rfl (Nat.le_of_ble_eq_true rfl) q551 (Or.inl rfl) h43 (Nat.le_of_ble_eq_true rfl) h43v ?_
      refine r_iconst (M := m_X3_step) (pc := 223) dX3_step_223 1 rfl ?_
      refine r_iadd (M := m_X3_step) (pc := 224) dX3_step_224 ?_
      obtain ⟨a44, fs45, e9, h46, h46b, H⟩ := H; cases e9
      refine r_put (M := m_X3_step) (pc := 225) dX3_step_225 "VersionSearch$Reader" 9 2 _ rfl (Nat.le_of_ble_eq_true rfl) q551 (Or.inl rfl) rfl h46 (Nat.le_of_ble_eq_true rfl) h46b rfl rfl ?_
      refine r_goto (M := m_X3_step) (pc := 228) dX3_step_228 168 (by decide) ?_
      exact pw_weak (le_s (le_n (le_n le_0))) H
    · replace H := f_if H hc
      refine r_aload_n (M := m_X3_step) (pc := 195) dX3_step_195 0 rfl rfl ?_
      refine r_bipush (M := m_X3_step) (pc := 196) dX3_step_196 10 rfl ?_
      refine r_aload_n (M := m_X3_step) (pc := 198) dX3_step_198 0 rfl rfl ?_
      obtain ⟨a49, fs50, x48, e9, h51, h51v, H⟩ := H; cases e9
      refine r_get (M := m_X3_step) (pc := 199) dX3_step_199 "VersionSearch$Reader" 9 4 _ rfl (Nat.le_of_ble_eq_true rfl) q553 (Or.inl rfl) h51 (Nat.le_of_ble_eq_true rfl) h51v ?_
      refine r_imul (M := m_X3_step) (pc := 202) dX3_step_202 ?_
      refine r_aload_n (M := m_X3_step) (pc := 203) dX3_step_203 0 rfl rfl ?_
      refine r_aload_n (M := m_X3_step) (pc := 204) dX3_step_204 0 rfl rfl ?_
      obtain ⟨a53, fs54, x52, e9, h55, h55v, H⟩ := H; cases e9
      refine r_get (M := m_X3_step) (pc := 205) dX3_step_205 "VersionSearch$Reader" 9 2 _ rfl (Nat.le_of_ble_eq_true rfl) q551 (Or.inl rfl) h55 (Nat.le_of_ble_eq_true rfl) h55v ?_
      obtain ⟨a58, us59, e9, h60, H⟩ := H; cases e9
      refine r_P (M := m_X3_step) (pc := 208) dX3_step_208 m_X3_at k_X3_at q322 q324 q318 rfl q323 9 _ rfl (av := [.int _]) (dy := d) n_X3_at h60 rfl (pw_c4 (Nat.le_of_ble_eq_true rfl)) (Nat.le_refl _) (H.mono (pw_nx_i (fun x57 w56 H1 => ?_)))
      replace H := H1; clear H1
      refine r_iadd (M := m_X3_step) (pc := 211) dX3_step_211 ?_
      refine r_bipush (M := m_X3_step) (pc := 212) dX3_step_212 48 rfl ?_
      refine r_isub (M := m_X3_step) (pc := 214) dX3_step_214 ?_
      obtain ⟨a61, fs62, e9, h63, h63b, H⟩ := H; cases e9
      refine r_put (M := m_X3_step) (pc := 215) dX3_step_215 "VersionSearch$Reader" 9 4 _ rfl (Nat.le_of_ble_eq_true rfl) q553 (Or.inl rfl) rfl h63 (Nat.le_of_ble_eq_true rfl) h63b rfl rfl ?_
      refine r_aload_n (M := m_X3_step) (pc := 218) dX3_step_218 0 rfl rfl ?_
      refine r_dup (M := m_X3_step) (pc := 219) dX3_step_219 (pw_cat_rf _) ?_
      obtain ⟨a66, fs67, x65, e9, h68, h68v, H⟩ := H; cases e9
      refine r_get (M := m_X3_step) (pc := 220) dX3_step_220 "VersionSearch$Reader" 9 2 _ rfl (Nat.le_of_ble_eq_true rfl) q551 (Or.inl rfl) h68 (Nat.le_of_ble_eq_true rfl) h68v ?_
      refine r_iconst (M := m_X3_step) (pc := 223) dX3_step_223 1 rfl ?_
      refine r_iadd (M := m_X3_step) (pc := 224) dX3_step_224 ?_
      obtain ⟨a69, fs70, e9, h71, h71b, H⟩ := H; cases e9
      refine r_put (M := m_X3_step) (pc := 225) dX3_step_225 "VersionSearch$Reader" 9 2 _ rfl (Nat.le_of_ble_eq_true rfl) q551 (Or.inl rfl) rfl h71 (Nat.le_of_ble_eq_true rfl) h71b rfl rfl ?_
      refine r_goto (M := m_X3_step) (pc := 228) dX3_step_228 168 (by decide) ?_
      exact pw_weak (le_s (le_n (le_n le_0))) H
theorem s_X3_step_K_0 {E : pw_E} {d : Nat} {w : pw_W} {Post : pw_R → pw_W → Prop} {k : Nat} (hk : k = 3 ∨ k = 8 ∨ k = 9) (v0 : Option Nat) (H : f_geti w v0 k 2 (fun x1 => f_V E w v0 k m_X3_at d [.int x1] (c_i (fun x6 w5 => (if x6 = 10 then f_geti w5 v0 k 2 (fun x10 => f_put E w5 v0 k 2 (.int (x10 + 1)) (fun w17 => pw_Wp E m_X3_step (d + 1) 0 [some (va_rf v0), none, none] [] w17 Post)) else f_geti w5 v0 k 2 (fun x18 => f_V E w5 v0 k m_X3_at d [.int x18] (c_i (fun x23 w22 => (if x23 = 32 then f_geti w22 v0 k 2 (fun x80 => f_put E w22 v0 k 2 (.int (x80 + 1)) (fun w87 => pw_Wp E m_X3_step (d + 1) 0 [some (va_rf v0), none, none] [] w87 Post)) else f_geti w22 v0 k 2 (fun x27 => f_put E w22 v0 k 3 (.int x27) (fun w34 => f_geti w34 v0 k 2 (fun x35 => f_V E w34 v0 k m_X3_at d [.int x35] (c_i (fun x40 w39 => (if x40 = (-1) then f_str E 12 (fun x74 => f_put E w39 v0 k 5 (va_rf x74) (fun w79 => Post (.inl none) w79)) else pw_Cl E m_X3_isLetter d [.int x40] w39 (c_z (fun b45 w44 => (if (bI b45) = 0 then pw_Cl E m_X3_isDigit d [.int x40] w44 (c_z (fun b47 w46 => (if (bI b47) = 0 then f_geti w46 v0 k 2 (fun x48 => f_put E w46 v0 k 2 (.int (x48 + 1)) (fun w55 => (if x40 = 59 then f_str E 16 (fun x62 => f_put E w55 v0 k 5 (va_rf x62) (fun w67 => Post (.inl none) w67)) else f_str E 14 (fun x56 => f_put E w55 v0 k 5 (va_rf x56) (fun w61 => Post (.inl none) w61))))) else f_put E w46 v0 k 4 (.int 0) (fun w71 => pw_Wp E m_X3_step (d + 1) 168 [some (va_rf v0), none, none] [] w71 Post)))) else (fun w72 => pw_Cl E m_J5_init d (va_rf (some w44.2.1) :: [.int 8]) w72 (c_v (fun w73 => pw_Wp E m_X3_step (d + 1) 88 [some (va_rf v0), none, some (va_rf (some w44.2.1))] [] w73 Post))) (pw_new w44 (20, [va_rf none, .int 0, .int 0, .int 0]) 4))))))))))))))))))) : pw_Wp E m_X3_step (d + 1) 0 [some (va_rf v0), none, none] [] w Post := by
  rcases hk with rfl | rfl | rfl
  · exact s_X3_step_k3_0 v0 H
  · exact s_X3_step_k8_0 v0 H
  · exact s_X3_step_k9_0 v0 H
theorem s_X3_step_K_88 {E : pw_E} {d : Nat} {w : pw_W} {Post : pw_R → pw_W → Prop} {k : Nat} (hk : k = 3 ∨ k = 8 ∨ k = 9) (v0 : Option Nat) (v2 : Option Nat) (H : f_geti w v0 k 2 (fun x1 => f_V E w v0 k m_X3_at d [.int x1] (c_i (fun x6 w5 => pw_Cl E m_X3_isLetter d [.int x6] w5 (c_z (fun b11 w10 => (if (bI b11) = 0 then f_V E w10 v2 20 m_J5_toString d [] (c_r (fun o13 w12 => f_put E w12 v0 k 6 (va_rf o13) (fun w20 => f_str E 13 (fun x21 => f_put E w20 v0 k 5 (va_rf x21) (fun w26 => Post (.inl none) w26))))) else f_V E w10 v2 20 m_J5_length d [] (c_i (fun x28 w27 => (if 7 ≤ x28 then f_geti w27 v0 k 2 (fun x32 => f_put E w27 v0 k 2 (.int (x32 + 1)) (fun w39 => pw_Wp E m_X3_step (d + 1) 88 [some (va_rf v0), none, some (va_rf v2)] [] w39 Post)) else f_geti w27 v0 k 2 (fun x40 => f_V E w27 v0 k m_X3_at d [.int x40] (c_i (fun x45 w44 => f_V E w44 v2 20 m_J5_append d [.int ((x45.toUInt32 % 65536).toInt32)] (c_r (fun o50 w49 => f_geti w49 v0 k 2 (fun x54 => f_put E w49 v0 k 2 (.int (x54 + 1)) (fun w61 => pw_Wp E m_X3_step (d + 1) 88 [some (va_rf v0), none, some (va_rf v2)] [] w61 Post))))))))))))))))) : pw_Wp E m_X3_step (d + 1) 88 [some (va_rf v0), none, some (va_rf v2)] [] w Post := by
  rcases hk with rfl | rfl | rfl
  · exact s_X3_step_k3_88 v0 v2 H
  · exact s_X3_step_k8_88 v0 v2 H
  · exact s_X3_step_k9_88 v0 v2 H
theorem s_X3_step_K_168 {E : pw_E} {d : Nat} {w : pw_W} {Post : pw_R → pw_W → Prop} {k : Nat} (hk : k = 3 ∨ k = 8 ∨ k = 9) (v0 : Option Nat) (H : f_geti w v0 k 2 (fun x1 => f_V E w v0 k m_X3_at d [.int x1] (c_i (fun x6 w5 => pw_Cl E m_X3_isDigit d [.int x6] w5 (c_z (fun b11 w10 => (if (bI b11) = 0 then f_geti w10 v0 k 2 (fun x12 => f_geti w10 v0 k 3 (fun x16 => (if (x12 - x16) ≤ 2 then f_str E 15 (fun x20 => f_put E w10 v0 k 5 (va_rf x20) (fun w25 => Post (.inl none) w25)) else f_str E 14 (fun x26 => f_put E w10 v0 k 5 (va_rf x26) (fun w31 => Post (.inl none) w31))))) else f_geti w10 v0 k 2 (fun x32 => f_geti w10 v0 k 3 (fun x36 => (if 2 ≤ (x32 - x36) then f_geti w10 v0 k 2 (fun x40 => f_put E w10 v0 k 2 (.int (x40 + 1)) (fun w47 => pw_Wp E m_X3_step (d + 1) 168 [some (va_rf v0), none, none] [] w47 Post)) else f_geti w10 v0 k 4 (fun x48 => f_geti w10 v0 k 2 (fun x52 => f_V E w10 v0 k m_X3_at d [.int x52] (c_i (fun x57 w56 => f_put E w56 v0 k 4 (.int (((10 * x48) + x57) - 48)) (fun w64 => f_geti w64 v0 k 2 (fun x65 => f_put E w64 v0 k 2 (.int (x65 + 1)) (fun w72 => pw_Wp E m_X3_step (d + 1) 168 [some (va_rf v0), none, none] [] w72 Post))))))))))))))))) : pw_Wp E m_X3_step (d + 1) 168 [some (va_rf v0), none, none] [] w Post := by
  rcases hk with rfl | rfl | rfl
  · exact s_X3_step_k3_168 v0 H
  · exact s_X3_step_k8_168 v0 H
  · exact s_X3_step_k9_168 v0 H
theorem s_X3_told_k3_0 {E : pw_E} {d : Nat} {w : pw_W} {Post : pw_R → pw_W → Prop} (v0 : Option Nat) (H : f_getr w v0 3 5 (fun x1 => f_str E 13 (fun x5 => (if x1 = x5 then f_getr w v0 3 6 (fun x7 => f_V E w x7 21 m_J6_length d [] (c_i (fun x12 w11 => (if x12 ≤ 4 then f_V E w11 v0 3 m_X3_step d [] (c_v (fun w16 => Post (.inl (some (va_rf x7))) w16)) else f_V E w11 v0 3 m_X3_wrongHere d [] (c_v (fun w20 => f_V E w20 v0 3 m_X3_step d [] (c_v (fun w24 => Post (.inl (some (va_rf x7))) w24)))))))) else f_V E w v0 3 m_X3_wrong d [] (c_r (fun o29 w28 => (∃ q9 : Nat, o29 = some q9 ∧ x_out E w28 q9 Post))))))) : pw_Wp E m_X3_told (d + 1) 0 [some (va_rf v0), none] [] w Post := by
  refine r_aload_n (M := m_X3_told) (pc := 0) dX3_told_0 0 rfl rfl ?_
  obtain ⟨a2, fs3, x1, e9, h4, h4v, H⟩ := H; cases e9
  refine r_get (M := m_X3_told) (pc := 1) dX3_told_1 "VersionSearch$Reader" 3 5 _ rfl (Nat.le_of_ble_eq_true rfl) q554 (Or.inl rfl) h4 (Nat.le_of_ble_eq_true rfl) h4v ?_
  obtain ⟨x5, h6, H⟩ := H
  refine r_getstatic (M := m_X3_told) (pc := 4) dX3_told_4 13 _ rfl q518 h6 ?_
  refine r_acmp_eq (M := m_X3_told) (pc := 7) dX3_told_7 15 (by decide) (fun hc => ?_) (fun hc => ?_)
  · replace H := f_it H hc
    refine r_aload_n (M := m_X3_told) (pc := 15) dX3_told_15 0 rfl rfl ?_
    obtain ⟨a8, fs9, x7, e9, h10, h10v, H⟩ := H; cases e9
    refine r_get (M := m_X3_told) (pc := 16) dX3_told_16 "VersionSearch$Reader" 3 6 _ rfl (Nat.le_of_ble_eq_true rfl) q555 (Or.inl rfl) h10 (Nat.le_of_ble_eq_true rfl) h10v ?_
    refine r_astore_n (M := m_X3_told) (pc := 19) dX3_told_19 1 rfl (Nat.le_of_ble_eq_true rfl) (pw_pre_rf rfl) ?_
    refine r_aload_n (M := m_X3_told) (pc := 20) dX3_told_20 1 rfl rfl ?_
    obtain ⟨a13, us14, e9, h15, H⟩ := H; cases e9
    refine r_V (M := m_X3_told) (pc := 21) dX3_told_21 m_J6_length k_J6_length q752 q753 21 _ rfl q754 (av := []) (dy := d) n_J6_length h15 rfl (pw_c4 (Nat.le_of_ble_eq_true rfl)) (Nat.le_refl _) (H.mono (pw_nx_i (fun x12 w11 H1 => ?_)))
    replace H := H1; clear H1
    refine r_iconst (M := m_X3_told) (pc := 24) dX3_told_24 4 rfl ?_
    refine r_icmp_le (M := m_X3_told) (pc := 25) dX3_told_25 32 (by decide) (fun hc => ?_) (fun hc => ?_)
    · replace H := f_it H hc
      refine r_aload_n (M := m_X3_told) (pc := 32) dX3_told_32 0 rfl rfl ?_
      obtain ⟨a17, us18, e9, h19, H⟩ := H; cases e9
      refine r_V (M := m_X3_told) (pc := 33) dX3_told_33 m_X3_step k_X3_step q315 q316 3 _ rfl q318 (av := []) (dy := d) n_X3_step h19 rfl (pw_c4 (Nat.le_of_ble_eq_true rfl)) (Nat.le_refl _) (H.mono (pw_nx_v (fun w16 H1 => ?_)))
      replace H := H1; clear H1
      refine r_aload_n (M := m_X3_told) (pc := 36) dX3_told_36 1 rfl rfl ?_
      exact r_areturn (M := m_X3_told) (pc := 37) dX3_told_37 rfl (by simp) H
    · replace H := f_if H hc
      refine r_aload_n (M := m_X3_told) (pc := 28) dX3_told_28 0 rfl rfl ?_
      obtain ⟨a21, us22, e9, h23, H⟩ := H; cases e9
      refine r_P (M := m_X3_told) (pc := 29) dX3_told_29 m_X3_wrongHere k_X3_wrongHere q760 q762 q318 rfl q761 3 _ rfl (av := []) (dy := d) n_X3_wrongHere h23 rfl (pw_c4 (Nat.le_of_ble_eq_true rfl)) (Nat.le_refl _) (H.mono (pw_nx_v (fun w20 H1 => ?_)))
      replace H := H1; clear H1
      refine r_aload_n (M := m_X3_told) (pc := 32) dX3_told_32 0 rfl rfl ?_
      obtain ⟨a25, us26, e9, h27, H⟩ := H; cases e9
      refine r_V (M := m_X3_told) (pc := 33) dX3_told_33 m_X3_step k_X3_step q315 q316 3 _ rfl q318 (av := []) (dy := d) n_X3_step h27 rfl (pw_c4 (Nat.le_of_ble_eq_true rfl)) (Nat.le_refl _) (H.mono (pw_nx_v (fun w24 H1 => ?_)))
      replace H := H1; clear H1
      refine r_aload_n (M := m_X3_told) (pc := 36) dX3_told_36 1 rfl rfl ?_
      exact r_areturn (M := m_X3_told) (pc := 37) dX3_told_37 rfl (by simp) H
  · replace H := f_if H hc
    refine r_aload_n (M := m_X3_told) (pc := 10) dX3_told_10 0 rfl rfl ?_
    obtain ⟨a30, us31, e9, h32, H⟩ := H; cases e9
    refine r_V (M := m_X3_told) (pc := 11) dX3_told_11 m_X3_wrong k_X3_wrong q617 q618 3 _ rfl q620 (av := []) (dy := d) n_X3_wrong h32 rfl (pw_c4 (Nat.le_of_ble_eq_true rfl)) (Nat.le_refl _) (H.mono (pw_nx_r (fun o29 w28 H1 => ?_)))
    replace H := H1; clear H1
    obtain ⟨q9, e9, H⟩ := H; cases e9
    exact r_athrow (M := m_X3_told) (pc := 14) dX3_told_14 (x_out_use rfl H)
theorem s_X3_told_k8_0 {E : pw_E} {d : Nat} {w : pw_W} {Post : pw_R → pw_W → Prop} (v0 : Option Nat) (H : f_getr w v0 8 5 (fun x1 => f_str E 13 (fun x5 => (if x1 = x5 then f_getr w v0 8 6 (fun x7 => f_V E w x7 21 m_J6_length d [] (c_i (fun x12 w11 => (if x12 ≤ 4 then f_V E w11 v0 8 m_X3_step d [] (c_v (fun w16 => Post (.inl (some (va_rf x7))) w16)) else f_V E w11 v0 8 m_X3_wrongHere d [] (c_v (fun w20 => f_V E w20 v0 8 m_X3_step d [] (c_v (fun w24 => Post (.inl (some (va_rf x7))) w24)))))))) else f_V E w v0 8 m_X3_wrong d [] (c_r (fun o29 w28 => (∃ q9 : Nat, o29 = some q9 ∧ x_out E w28 q9 Post))))))) : pw_Wp E m_X3_told (d + 1) 0 [some (va_rf v0), none] [] w Post := by
  refine r_aload_n (M := m_X3_told) (pc := 0) dX3_told_0 0 rfl rfl ?_
  obtain ⟨a2, fs3, x1, e9, h4, h4v, H⟩ := H; cases e9
  refine r_get (M := m_X3_told) (pc := 1) dX3_told_1 "VersionSearch$Reader" 8 5 _ rfl (Nat.le_of_ble_eq_true rfl) q554 (Or.inl rfl) h4 (Nat.le_of_ble_eq_true rfl) h4v ?_
  obtain ⟨x5, h6, H⟩ := H
  refine r_getstatic (M := m_X3_told) (pc := 4) dX3_told_4 13 _ rfl q518 h6 ?_
  refine r_acmp_eq (M := m_X3_told) (pc := 7) dX3_told_7 15 (by decide) (fun hc => ?_) (fun hc => ?_)
  · replace H := f_it H hc
    refine r_aload_n (M := m_X3_told) (pc := 15) dX3_told_15 0 rfl rfl ?_
    obtain ⟨a8, fs9, x7, e9, h10, h10v, H⟩ := H; cases e9
    refine r_get (M := m_X3_told) (pc := 16) dX3_told_16 "VersionSearch$Reader" 8 6 _ rfl (Nat.le_of_ble_eq_true rfl) q555 (Or.inl rfl) h10 (Nat.le_of_ble_eq_true rfl) h10v ?_
    refine r_astore_n (M := m_X3_told) (pc := 19) dX3_told_19 1 rfl (Nat.le_of_ble_eq_true rfl) (pw_pre_rf rfl) ?_
    refine r_aload_n (M := m_X3_told) (pc := 20) dX3_told_20 1 rfl rfl ?_
    obtain ⟨a13, us14, e9, h15, H⟩ := H; cases e9
    refine r_V (M := m_X3_told) (pc := 21) dX3_told_21 m_J6_length k_J6_length q752 q753 21 _ rfl q754 (av := []) (dy := d) n_J6_length h15 rfl (pw_c4 (Nat.le_of_ble_eq_true rfl)) (Nat.le_refl _) (H.mono (pw_nx_i (fun x12 w11 H1 => ?_)))
    replace H := H1; clear H1
    refine r_iconst (M := m_X3_told) (pc := 24) dX3_told_24 4 rfl ?_
    refine r_icmp_le (M := m_X3_told) (pc := 25) dX3_told_25 32 (by decide) (fun hc => ?_) (fun hc => ?_)
    · replace H := f_it H hc
      refine r_aload_n (M := m_X3_told) (pc := 32) dX3_told_32 0 rfl rfl ?_
      obtain ⟨a17, us18, e9, h19, H⟩ := H; cases e9
      refine r_V (M := m_X3_told) (pc := 33) dX3_told_33 m_X3_step k_X3_step q315 q316 8 _ rfl q319 (av := []) (dy := d) n_X3_step h19 rfl (pw_c4 (Nat.le_of_ble_eq_true rfl)) (Nat.le_refl _) (H.mono (pw_nx_v (fun w16 H1 => ?_)))
      replace H := H1; clear H1
      refine r_aload_n (M := m_X3_told) (pc := 36) dX3_told_36 1 rfl rfl ?_
      exact r_areturn (M := m_X3_told) (pc := 37) dX3_told_37 rfl (by simp) H
    · replace H := f_if H hc
      refine r_aload_n (M := m_X3_told) (pc := 28) dX3_told_28 0 rfl rfl ?_
      obtain ⟨a21, us22, e9, h23, H⟩ := H; cases e9
      refine r_P (M := m_X3_told) (pc := 29) dX3_told_29 m_X3_wrongHere k_X3_wrongHere q760 q762 q318 rfl q761 8 _ rfl (av := []) (dy := d) n_X3_wrongHere h23 rfl (pw_c4 (Nat.le_of_ble_eq_true rfl)) (Nat.le_refl _) (H.mono (pw_nx_v (fun w20 H1 => ?_)))
      replace H := H1; clear H1
      refine r_aload_n (M := m_X3_told) (pc := 32) dX3_told_32 0 rfl rfl ?_
      obtain ⟨a25, us26, e9, h27, H⟩ := H; cases e9
      refine r_V (M := m_X3_told) (pc := 33) dX3_told_33 m_X3_step k_X3_step q315 q316 8 _ rfl q319 (av := []) (dy := d) n_X3_step h27 rfl (pw_c4 (Nat.le_of_ble_eq_true rfl)) (Nat.le_refl _) (H.mono (pw_nx_v (fun w24 H1 => ?_)))
      replace H := H1; clear H1
      refine r_aload_n (M := m_X3_told) (pc := 36) dX3_told_36 1 rfl rfl ?_
      exact r_areturn (M := m_X3_told) (pc := 37) dX3_told_37 rfl (by simp) H
  · replace H := f_if H hc
    refine r_aload_n (M := m_X3_told) (pc := 10) dX3_told_10 0 rfl rfl ?_
    obtain ⟨a30, us31, e9, h32, H⟩ := H; cases e9
    refine r_V (M := m_X3_told) (pc := 11) dX3_told_11 m_X3_wrong k_X3_wrong q617 q618 8 _ rfl q621 (av := []) (dy := d) n_X3_wrong h32 rfl (pw_c4 (Nat.le_of_ble_eq_true rfl)) (Nat.le_refl _) (H.mono (pw_nx_r (fun o29 w28 H1 => ?_)))
    replace H := H1; clear H1
    obtain ⟨q9, e9, H⟩ := H; cases e9
    exact r_athrow (M := m_X3_told) (pc := 14) dX3_told_14 (x_out_use rfl H)
theorem s_X3_told_k9_0 {E : pw_E} {d : Nat} {w : pw_W} {Post : pw_R → pw_W → Prop} (v0 : Option Nat) (H : f_getr w v0 9 5 (fun x1 => f_str E 13 (fun x5 => (if x1 = x5 then f_getr w v0 9 6 (fun x7 => f_V E w x7 21 m_J6_length d [] (c_i (fun x12 w11 => (if x12 ≤ 4 then f_V E w11 v0 9 m_X3_step d [] (c_v (fun w16 => Post (.inl (some (va_rf x7))) w16)) else f_V E w11 v0 9 m_X3_wrongHere d [] (c_v (fun w20 => f_V E w20 v0 9 m_X3_step d [] (c_v (fun w24 => Post (.inl (some (va_rf x7))) w24)))))))) else f_V E w v0 9 m_X3_wrong d [] (c_r (fun o29 w28 => (∃ q9 : Nat, o29 = some q9 ∧ x_out E w28 q9 Post))))))) : pw_Wp E m_X3_told (d + 1) 0 [some (va_rf v0), none] [] w Post := by
  refine r_aload_n (M := m_X3_told) (pc := 0) dX3_told_0 0 rfl rfl ?_
  obtain ⟨a2, fs3, x1, e9, h4, h4v, H⟩ := H; cases e9
  refine r_get (M := m_X3_told) (pc := 1) dX3_told_1 "VersionSearch$Reader" 9 5 _ rfl (Nat.le_of_ble_eq_true rfl) q554 (Or.inl rfl) h4 (Nat.le_of_ble_eq_true rfl) h4v ?_
  obtain ⟨x5, h6, H⟩ := H
  refine r_getstatic (M := m_X3_told) (pc := 4) dX3_told_4 13 _ rfl q518 h6 ?_
  refine r_acmp_eq (M := m_X3_told) (pc := 7) dX3_told_7 15 (by decide) (fun hc => ?_) (fun hc => ?_)
  · replace H := f_it H hc
    refine r_aload_n (M := m_X3_told) (pc := 15) dX3_told_15 0 rfl rfl ?_
    obtain ⟨a8, fs9, x7, e9, h10, h10v, H⟩ := H; cases e9
    refine r_get (M := m_X3_told) (pc := 16) dX3_told_16 "VersionSearch$Reader" 9 6 _ rfl (Nat.le_of_ble_eq_true rfl) q555 (Or.inl rfl) h10 (Nat.le_of_ble_eq_true rfl) h10v ?_
    refine r_astore_n (M := m_X3_told) (pc := 19) dX3_told_19 1 rfl (Nat.le_of_ble_eq_true rfl) (pw_pre_rf rfl) ?_
    refine r_aload_n (M := m_X3_told) (pc := 20) dX3_told_20 1 rfl rfl ?_
    obtain ⟨a13, us14, e9, h15, H⟩ := H; cases e9
    refine r_V (M := m_X3_told) (pc := 21) dX3_told_21 m_J6_length k_J6_length q752 q753 21 _ rfl q754 (av := []) (dy := d) n_J6_length h15 rfl (pw_c4 (Nat.le_of_ble_eq_true rfl)) (Nat.le_refl _) (H.mono (pw_nx_i (fun x12 w11 H1 => ?_)))
    replace H := H1; clear H1
    refine r_iconst (M := m_X3_told) (pc := 24) dX3_told_24 4 rfl ?_
    refine r_icmp_le (M := m_X3_told) (pc := 25) dX3_told_25 32 (by decide) (fun hc => ?_) (fun hc => ?_)
    · replace H := f_it H hc
      refine r_aload_n (M := m_X3_told) (pc := 32) dX3_told_32 0 rfl rfl ?_
      obtain ⟨a17, us18, e9, h19, H⟩ := H; cases e9
      refine r_V (M := m_X3_told) (pc := 33) dX3_told_33 m_X3_step k_X3_step q315 q316 9 _ rfl q320 (av := []) (dy := d) n_X3_step h19 rfl (pw_c4 (Nat.le_of_ble_eq_true rfl)) (Nat.le_refl _) (H.mono (pw_nx_v (fun w16 H1 => ?_)))
      replace H := H1; clear H1
      refine r_aload_n (M := m_X3_told) (pc := 36) dX3_told_36 1 rfl rfl ?_
      exact r_areturn (M := m_X3_told) (pc := 37) dX3_told_37 rfl (by simp) H
    · replace H := f_if H hc
      refine r_aload_n (M := m_X3_told) (pc := 28) dX3_told_28 0 rfl rfl ?_
      obtain ⟨a21, us22, e9, h23, H⟩ := H; cases e9
      refine r_P (M := m_X3_told) (pc := 29) dX3_told_29 m_X3_wrongHere k_X3_wrongHere q760 q762 q318 rfl q761 9 _ rfl (av := []) (dy := d) n_X3_wrongHere h23 rfl (pw_c4 (Nat.le_of_ble_eq_true rfl)) (Nat.le_refl _) (H.mono (pw_nx_v (fun w20 H1 => ?_)))
      replace H := H1; clear H1
      refine r_aload_n (M := m_X3_told) (pc := 32) dX3_told_32 0 rfl rfl ?_
      obtain ⟨a25, us26, e9, h27, H⟩ := H; cases e9
      refine r_V (M := m_X3_told) (pc := 33) dX3_told_33 m_X3_step k_X3_step q315 q316 9 _ rfl q320 (av := []) (dy := d) n_X3_step h27 rfl (pw_c4 (Nat.le_of_ble_eq_true rfl)) (Nat.le_refl _) (H.mono (pw_nx_v (fun w24 H1 => ?_)))
      replace H := H1; clear H1
      refine r_aload_n (M := m_X3_told) (pc := 36) dX3_told_36 1 rfl rfl ?_
      exact r_areturn (M := m_X3_told) (pc := 37) dX3_told_37 rfl (by simp) H
  · replace H := f_if H hc
    refine r_aload_n (M := m_X3_told) (pc := 10) dX3_told_10 0 rfl rfl ?_
    obtain ⟨a30, us31, e9, h32, H⟩ := H; cases e9
    refine r_V (M := m_X3_told) (pc := 11) dX3_told_11 m_X3_wrong k_X3_wrong q617 q618 9 _ rfl q622 (av := []) (dy := d) n_X3_wrong h32 rfl (pw_c4 (Nat.le_of_ble_eq_true rfl)) (Nat.le_refl _) (H.mono (pw_nx_r (fun o29 w28 H1 => ?_)))
    replace H := H1; clear H1
    obtain ⟨q9, e9, H⟩ := H; cases e9
    exact r_athrow (M := m_X3_told) (pc := 14) dX3_told_14 (x_out_use rfl H)
theorem s_X3_told_K_0 {E : pw_E} {d : Nat} {w : pw_W} {Post : pw_R → pw_W → Prop} {k : Nat} (hk : k = 3 ∨ k = 8 ∨ k = 9) (v0 : Option Nat) (H : f_getr w v0 k 5 (fun x1 => f_str E 13 (fun x5 => (if x1 = x5 then f_getr w v0 k 6 (fun x7 => f_V E w x7 21 m_J6_length d [] (c_i (fun x12 w11 => (if x12 ≤ 4 then f_V E w11 v0 k m_X3_step d [] (c_v (fun w16 => Post (.inl (some (va_rf x7))) w16)) else f_V E w11 v0 k m_X3_wrongHere d [] (c_v (fun w20 => f_V E w20 v0 k m_X3_step d [] (c_v (fun w24 => Post (.inl (some (va_rf x7))) w24)))))))) else f_V E w v0 k m_X3_wrong d [] (c_r (fun o29 w28 => (∃ q9 : Nat, o29 = some q9 ∧ x_out E w28 q9 Post))))))) : pw_Wp E m_X3_told (d + 1) 0 [some (va_rf v0), none] [] w Post := by
  rcases hk with rfl | rfl | rfl
  · exact s_X3_told_k3_0 v0 H
  · exact s_X3_told_k8_0 v0 H
  · exact s_X3_told_k9_0 v0 H
theorem s_X3_word_k3_0 {E : pw_E} {d : Nat} {w : pw_W} {Post : pw_R → pw_W → Prop} (v0 : Option Nat) (v1 : Option Nat) (H : pw_Wp E m_X3_word (d + 1) 2 [some (va_rf v0), some (va_rf v1), some (.int 0)] [] w Post) : pw_Wp E m_X3_word (d + 1) 0 [some (va_rf v0), some (va_rf v1), none] [] w Post := by
  refine r_iconst (M := m_X3_word) (pc := 0) dX3_word_0 0 rfl ?_
  refine r_istore_n (M := m_X3_word) (pc := 1) dX3_word_1 2 rfl (Nat.le_of_ble_eq_true rfl) (pw_pre_rf rfl) ?_
  exact pw_weak (le_s (le_s (le_s le_0))) H
theorem s_X3_word_k3_2 {E : pw_E} {d : Nat} {w : pw_W} {Post : pw_R → pw_W → Prop} (v0 : Option Nat) (v1 : Option Nat) (v2 : Int32) (H : f_len w v1 (fun x1 => (if x1 ≤ v2 then f_V E w v0 3 m_X3_wrong d [] (c_r (fun o7 w6 => (∃ q9 : Nat, o7 = some q9 ∧ x_out E w6 q9 Post))) else f_getr w v0 3 5 (fun x11 => f_str E 13 (fun x15 => (if x11 = x15 then f_getr w v0 3 6 (fun x17 => f_aldr w v1 v2 (fun x21 => f_V E w x17 21 m_J6_equals d [va_rf x21] (c_z (fun b27 w26 => (if (bI b27) = 0 then pw_Wp E m_X3_word (d + 1) 2 [some (va_rf v0), some (va_rf v1), some (.int (v2 + 1))] [] w26 Post else f_V E w26 v0 3 m_X3_step d [] (c_v (fun w31 => Post (.inl (some (.int v2))) w31))))))) else pw_Wp E m_X3_word (d + 1) 2 [some (va_rf v0), some (va_rf v1), some (.int (v2 + 1))] [] w Post)))))) : pw_Wp E m_X3_word (d + 1) 2 [some (va_rf v0), some (va_rf v1), some (.int v2)] [] w Post := by
  refine r_iload_n (M := m_X3_word) (pc := 2) dX3_word_2 2 rfl rfl ?_
  refine r_aload_n (M := m_X3_word) (pc := 3) dX3_word_3 1 rfl rfl ?_
  obtain ⟨a2, t3, tyt3, vs4, e9, h5, h5t, H⟩ := H; cases e9
  refine r_alen (M := m_X3_word) (pc := 4) dX3_word_4 t3 tyt3 h5t h5 ?_
  refine r_icmp_ge (M := m_X3_word) (pc := 5) dX3_word_5 46 (by decide) (fun hc => ?_) (fun hc => ?_)
  · replace H := f_it H hc
    refine r_aload_n (M := m_X3_word) (pc := 46) dX3_word_46 0 rfl rfl ?_
    obtain ⟨a8, us9, e9, h10, H⟩ := H; cases e9
    refine r_V (M := m_X3_word) (pc := 47) dX3_word_47 m_X3_wrong k_X3_wrong q617 q618 3 _ rfl q620 (av := []) (dy := d) n_X3_wrong h10 rfl (pw_c4 (Nat.le_of_ble_eq_true rfl)) (Nat.le_refl _) (H.mono (pw_nx_r (fun o7 w6 H1 => ?_)))
    replace H := H1; clear H1
    obtain ⟨q9, e9, H⟩ := H; cases e9
    exact r_athrow (M := m_X3_word) (pc := 50) dX3_word_50 (x_out_use rfl H)
  · replace H := f_if H hc
    refine r_aload_n (M := m_X3_word) (pc := 8) dX3_word_8 0 rfl rfl ?_
    obtain ⟨a12, fs13, x11, e9, h14, h14v, H⟩ := H; cases e9
    refine r_get (M := m_X3_word) (pc := 9) dX3_word_9 "VersionSearch$Reader" 3 5 _ rfl (Nat.le_of_ble_eq_true rfl) q554 (Or.inl rfl) h14 (Nat.le_of_ble_eq_true rfl) h14v ?_
    obtain ⟨x15, h16, H⟩ := H
    refine r_getstatic (M := m_X3_word) (pc := 12) dX3_word_12 13 _ rfl q518 h16 ?_
    refine r_acmp_ne (M := m_X3_word) (pc := 15) dX3_word_15 40 (by decide) (fun hc => ?_) (fun hc => ?_)
    · replace H := f_if H hc
      refine r_iinc (M := m_X3_word) (pc := 40) dX3_word_40 1 rfl rfl (Nat.le_of_ble_eq_true rfl) (pw_pre_rf rfl) ?_
      refine r_goto (M := m_X3_word) (pc := 43) dX3_word_43 2 (by decide) ?_
      exact pw_weak (le_s (le_s (le_s le_0))) H
    · replace H := f_it H hc
      refine r_aload_n (M := m_X3_word) (pc := 18) dX3_word_18 0 rfl rfl ?_
      obtain ⟨a18, fs19, x17, e9, h20, h20v, H⟩ := H; cases e9
      refine r_get (M := m_X3_word) (pc := 19) dX3_word_19 "VersionSearch$Reader" 3 6 _ rfl (Nat.le_of_ble_eq_true rfl) q555 (Or.inl rfl) h20 (Nat.le_of_ble_eq_true rfl) h20v ?_
      refine r_aload_n (M := m_X3_word) (pc := 22) dX3_word_22 1 rfl rfl ?_
      refine r_iload_n (M := m_X3_word) (pc := 23) dX3_word_23 2 rfl rfl ?_
      obtain ⟨a22, t23, tyt23, vs24, x21, e9, h25, h25t, h25r, h250, h25v, H⟩ := H; cases e9
      refine r_aaload (M := m_X3_word) (pc := 24) dX3_word_24 t23 tyt23 h25t h25r h25 h250 h25v ?_
      obtain ⟨a28, us29, e9, h30, H⟩ := H; cases e9
      refine r_V (M := m_X3_word) (pc := 25) dX3_word_25 m_J6_equals k_J6_equals q609 q610 21 _ rfl q611 (av := [va_rf _]) (dy := d) n_J6_equals h30 rfl (pw_c4 (Nat.le_of_ble_eq_true rfl)) (Nat.le_refl _) (H.mono (pw_nx_z (fun b27 w26 H1 => ?_)))
      replace H := H1; clear H1
      refine r_if_ne (M := m_X3_word) (pc := 28) dX3_word_28 34 (by decide) (fun hc => ?_) (fun hc => ?_)
      · replace H := f_if H hc
        refine r_aload_n (M := m_X3_word) (pc := 34) dX3_word_34 0 rfl rfl ?_
        obtain ⟨a32, us33, e9, h34, H⟩ := H; cases e9
        refine r_V (M := m_X3_word) (pc := 35) dX3_word_35 m_X3_step k_X3_step q315 q316 3 _ rfl q318 (av := []) (dy := d) n_X3_step h34 rfl (pw_c4 (Nat.le_of_ble_eq_true rfl)) (Nat.le_refl _) (H.mono (pw_nx_v (fun w31 H1 => ?_)))
        replace H := H1; clear H1
        refine r_iload_n (M := m_X3_word) (pc := 38) dX3_word_38 2 rfl rfl ?_
        exact r_ireturn (M := m_X3_word) (pc := 39) dX3_word_39 rfl H
      · replace H := f_it H hc
        refine r_goto (M := m_X3_word) (pc := 31) dX3_word_31 40 (by decide) ?_
        refine r_iinc (M := m_X3_word) (pc := 40) dX3_word_40 1 rfl rfl (Nat.le_of_ble_eq_true rfl) (pw_pre_rf rfl) ?_
        refine r_goto (M := m_X3_word) (pc := 43) dX3_word_43 2 (by decide) ?_
        exact pw_weak (le_s (le_s (le_s le_0))) H
theorem s_X3_word_k8_0 {E : pw_E} {d : Nat} {w : pw_W} {Post : pw_R → pw_W → Prop} (v0 : Option Nat) (v1 : Option Nat) (H : pw_Wp E m_X3_word (d + 1) 2 [some (va_rf v0), some (va_rf v1), some (.int 0)] [] w Post) : pw_Wp E m_X3_word (d + 1) 0 [some (va_rf v0), some (va_rf v1), none] [] w Post := by
  refine r_iconst (M := m_X3_word) (pc := 0) dX3_word_0 0 rfl ?_
  refine r_istore_n (M := m_X3_word) (pc := 1) dX3_word_1 2 rfl (Nat.le_of_ble_eq_true rfl) (pw_pre_rf rfl) ?_
  exact pw_weak (le_s (le_s (le_s le_0))) H
theorem s_X3_word_k8_2 {E : pw_E} {d : Nat} {w : pw_W} {Post : pw_R → pw_W → Prop} (v0 : Option Nat) (v1 : Option Nat) (v2 : Int32) (H : f_len w v1 (fun x1 => (if x1 ≤ v2 then f_V E w v0 8 m_X3_wrong d [] (c_r (fun o7 w6 => (∃ q9 : Nat, o7 = some q9 ∧ x_out E w6 q9 Post))) else f_getr w v0 8 5 (fun x11 => f_str E 13 (fun x15 => (if x11 = x15 then f_getr w v0 8 6 (fun x17 => f_aldr w v1 v2 (fun x21 => f_V E w x17 21 m_J6_equals d [va_rf x21] (c_z (fun b27 w26 => (if (bI b27) = 0 then pw_Wp E m_X3_word (d + 1) 2 [some (va_rf v0), some (va_rf v1), some (.int (v2 + 1))] [] w26 Post else f_V E w26 v0 8 m_X3_step d [] (c_v (fun w31 => Post (.inl (some (.int v2))) w31))))))) else pw_Wp E m_X3_word (d + 1) 2 [some (va_rf v0), some (va_rf v1), some (.int (v2 + 1))] [] w Post)))))) : pw_Wp E m_X3_word (d + 1) 2 [some (va_rf v0), some (va_rf v1), some (.int v2)] [] w Post := by
  refine r_iload_n (M := m_X3_word) (pc := 2) dX3_word_2 2 rfl rfl ?_
  refine r_aload_n (M := m_X3_word) (pc := 3) dX3_word_3 1 rfl rfl ?_
  obtain ⟨a2, t3, tyt3, vs4, e9, h5, h5t, H⟩ := H; cases e9
  refine r_alen (M := m_X3_word) (pc := 4) dX3_word_4 t3 tyt3 h5t h5 ?_
  refine r_icmp_ge (M := m_X3_word) (pc := 5) dX3_word_5 46 (by decide) (fun hc => ?_) (fun hc => ?_)
  · replace H := f_it H hc
    refine r_aload_n (M := m_X3_word) (pc := 46) dX3_word_46 0 rfl rfl ?_
    obtain ⟨a8, us9, e9, h10, H⟩ := H; cases e9
    refine r_V (M := m_X3_word) (pc := 47) dX3_word_47 m_X3_wrong k_X3_wrong q617 q618 8 _ rfl q621 (av := []) (dy := d) n_X3_wrong h10 rfl (pw_c4 (Nat.le_of_ble_eq_true rfl)) (Nat.le_refl _) (H.mono (pw_nx_r (fun o7 w6 H1 => ?_)))
    replace H := H1; clear H1
    obtain ⟨q9, e9, H⟩ := H; cases e9
    exact r_athrow (M := m_X3_word) (pc := 50) dX3_word_50 (x_out_use rfl H)
  · replace H := f_if H hc
    refine r_aload_n (M := m_X3_word) (pc := 8) dX3_word_8 0 rfl rfl ?_
    obtain ⟨a12, fs13, x11, e9, h14, h14v, H⟩ := H; cases e9
    refine r_get (M := m_X3_word) (pc := 9) dX3_word_9 "VersionSearch$Reader" 8 5 _ rfl (Nat.le_of_ble_eq_true rfl) q554 (Or.inl rfl) h14 (Nat.le_of_ble_eq_true rfl) h14v ?_
    obtain ⟨x15, h16, H⟩ := H
    refine r_getstatic (M := m_X3_word) (pc := 12) dX3_word_12 13 _ rfl q518 h16 ?_
    refine r_acmp_ne (M := m_X3_word) (pc := 15) dX3_word_15 40 (by decide) (fun hc => ?_) (fun hc => ?_)
    · replace H := f_if H hc
      refine r_iinc (M := m_X3_word) (pc := 40) dX3_word_40 1 rfl rfl (Nat.le_of_ble_eq_true rfl) (pw_pre_rf rfl) ?_
      refine r_goto (M := m_X3_word) (pc := 43) dX3_word_43 2 (by decide) ?_
      exact pw_weak (le_s (le_s (le_s le_0))) H
    · replace H := f_it H hc
      refine r_aload_n (M := m_X3_word) (pc := 18) dX3_word_18 0 rfl rfl ?_
      obtain ⟨a18, fs19, x17, e9, h20, h20v, H⟩ := H; cases e9
      refine r_get (M := m_X3_word) (pc := 19) dX3_word_19 "VersionSearch$Reader" 8 6 _ rfl (Nat.le_of_ble_eq_true rfl) q555 (Or.inl rfl) h20 (Nat.le_of_ble_eq_true rfl) h20v ?_
      refine r_aload_n (M := m_X3_word) (pc := 22) dX3_word_22 1 rfl rfl ?_
      refine r_iload_n (M := m_X3_word) (pc := 23) dX3_word_23 2 rfl rfl ?_
      obtain ⟨a22, t23, tyt23, vs24, x21, e9, h25, h25t, h25r, h250, h25v, H⟩ := H; cases e9
      refine r_aaload (M := m_X3_word) (pc := 24) dX3_word_24 t23 tyt23 h25t h25r h25 h250 h25v ?_
      obtain ⟨a28, us29, e9, h30, H⟩ := H; cases e9
      refine r_V (M := m_X3_word) (pc := 25) dX3_word_25 m_J6_equals k_J6_equals q609 q610 21 _ rfl q611 (av := [va_rf _]) (dy := d) n_J6_equals h30 rfl (pw_c4 (Nat.le_of_ble_eq_true rfl)) (Nat.le_refl _) (H.mono (pw_nx_z (fun b27 w26 H1 => ?_)))
      replace H := H1; clear H1
      refine r_if_ne (M := m_X3_word) (pc := 28) dX3_word_28 34 (by decide) (fun hc => ?_) (fun hc => ?_)
      · replace H := f_if H hc
        refine r_aload_n (M := m_X3_word) (pc := 34) dX3_word_34 0 rfl rfl ?_
        obtain ⟨a32, us33, e9, h34, H⟩ := H; cases e9
        refine r_V (M := m_X3_word) (pc := 35) dX3_word_35 m_X3_step k_X3_step q315 q316 8 _ rfl q319 (av := []) (dy := d) n_X3_step h34 rfl (pw_c4 (Nat.le_of_ble_eq_true rfl)) (Nat.le_refl _) (H.mono (pw_nx_v (fun w31 H1 => ?_)))
        replace H := H1; clear H1
        refine r_iload_n (M := m_X3_word) (pc := 38) dX3_word_38 2 rfl rfl ?_
        exact r_ireturn (M := m_X3_word) (pc := 39) dX3_word_39 rfl H
      · replace H := f_it H hc
        refine r_goto (M := m_X3_word) (pc := 31) dX3_word_31 40 (by decide) ?_
        refine r_iinc (M := m_X3_word) (pc := 40) dX3_word_40 1 rfl rfl (Nat.le_of_ble_eq_true rfl) (pw_pre_rf rfl) ?_
        refine r_goto (M := m_X3_word) (pc := 43) dX3_word_43 2 (by decide) ?_
        exact pw_weak (le_s (le_s (le_s le_0))) H
theorem s_X3_word_k9_0 {E : pw_E} {d : Nat} {w : pw_W} {Post : pw_R → pw_W → Prop} (v0 : Option Nat) (v1 : Option Nat) (H : pw_Wp E m_X3_word (d + 1) 2 [some (va_rf v0), some (va_rf v1), some (.int 0)] [] w Post) : pw_Wp E m_X3_word (d + 1) 0 [some (va_rf v0), some (va_rf v1), none] [] w Post := by
  refine r_iconst (M := m_X3_word) (pc := 0) dX3_word_0 0 rfl ?_
  refine r_istore_n (M := m_X3_word) (pc := 1) dX3_word_1 2 rfl (Nat.le_of_ble_eq_true rfl) (pw_pre_rf rfl) ?_
  exact pw_weak (le_s (le_s (le_s le_0))) H
theorem s_X3_word_k9_2 {E : pw_E} {d : Nat} {w : pw_W} {Post : pw_R → pw_W → Prop} (v0 : Option Nat) (v1 : Option Nat) (v2 : Int32) (H : f_len w v1 (fun x1 => (if x1 ≤ v2 then f_V E w v0 9 m_X3_wrong d [] (c_r (fun o7 w6 => (∃ q9 : Nat, o7 = some q9 ∧ x_out E w6 q9 Post))) else f_getr w v0 9 5 (fun x11 => f_str E 13 (fun x15 => (if x11 = x15 then f_getr w v0 9 6 (fun x17 => f_aldr w v1 v2 (fun x21 => f_V E w x17 21 m_J6_equals d [va_rf x21] (c_z (fun b27 w26 => (if (bI b27) = 0 then pw_Wp E m_X3_word (d + 1) 2 [some (va_rf v0), some (va_rf v1), some (.int (v2 + 1))] [] w26 Post else f_V E w26 v0 9 m_X3_step d [] (c_v (fun w31 => Post (.inl (some (.int v2))) w31))))))) else pw_Wp E m_X3_word (d + 1) 2 [some (va_rf v0), some (va_rf v1), some (.int (v2 + 1))] [] w Post)))))) : pw_Wp E m_X3_word (d + 1) 2 [some (va_rf v0), some (va_rf v1), some (.int v2)] [] w Post := by
  refine r_iload_n (M := m_X3_word) (pc := 2) dX3_word_2 2 rfl rfl ?_
  refine r_aload_n (M := m_X3_word) (pc := 3) dX3_word_3 1 rfl rfl ?_
  obtain ⟨a2, t3, tyt3, vs4, e9, h5, h5t, H⟩ := H; cases e9
  refine r_alen (M := m_X3_word) (pc := 4) dX3_word_4 t3 tyt3 h5t h5 ?_
  refine r_icmp_ge (M := m_X3_word) (pc := 5) dX3_word_5 46 (by decide) (fun hc => ?_) (fun hc => ?_)
  · replace H := f_it H hc
    refine r_aload_n (M := m_X3_word) (pc := 46) dX3_word_46 0 rfl rfl ?_
    obtain ⟨a8, us9, e9, h10, H⟩ := H; cases e9
    refine r_V (M := m_X3_word) (pc := 47) dX3_word_47 m_X3_wrong k_X3_wrong q617 q618 9 _ rfl q622 (av := []) (dy := d) n_X3_wrong h10 rfl (pw_c4 (Nat.le_of_ble_eq_true rfl)) (Nat.le_refl _) (H.mono (pw_nx_r (fun o7 w6 H1 => ?_)))
    replace H := H1; clear H1
    obtain ⟨q9, e9, H⟩ := H; cases e9
    exact r_athrow (M := m_X3_word) (pc := 50) dX3_word_50 (x_out_use rfl H)
  · replace H := f_if H hc
    refine r_aload_n (M := m_X3_word) (pc := 8) dX3_word_8 0 rfl rfl ?_
    obtain ⟨a12, fs13, x11, e9, h14, h14v, H⟩ := H; cases e9
    refine r_get (M := m_X3_word) (pc := 9) dX3_word_9 "VersionSearch$Reader" 9 5 _ rfl (Nat.le_of_ble_eq_true rfl) q554 (Or.inl rfl) h14 (Nat.le_of_ble_eq_true rfl) h14v ?_
    obtain ⟨x15, h16, H⟩ := H
    refine r_getstatic (M := m_X3_word) (pc := 12) dX3_word_12 13 _ rfl q518 h16 ?_
    refine r_acmp_ne (M := m_X3_word) (pc := 15) dX3_word_15 40 (by decide) (fun hc => ?_) (fun hc => ?_)
    · replace H := f_if H hc
      refine r_iinc (M := m_X3_word) (pc := 40) dX3_word_40 1 rfl rfl (Nat.le_of_ble_eq_true rfl) (pw_pre_rf rfl) ?_
      refine r_goto (M := m_X3_word) (pc := 43) dX3_word_43 2 (by decide) ?_
      exact pw_weak (le_s (le_s (le_s le_0))) H
    · replace H := f_it H hc
      refine r_aload_n (M := m_X3_word) (pc := 18) dX3_word_18 0 rfl rfl ?_
      obtain ⟨a18, fs19, x17, e9, h20, h20v, H⟩ := H; cases e9
      refine r_get (M := m_X3_word) (pc := 19) dX3_word_19 "VersionSearch$Reader" 9 6 _ rfl (Nat.le_of_ble_eq_true rfl) q555 (Or.inl rfl) h20 (Nat.le_of_ble_eq_true rfl) h20v ?_
      refine r_aload_n (M := m_X3_word) (pc := 22) dX3_word_22 1 rfl rfl ?_
      refine r_iload_n (M := m_X3_word) (pc := 23) dX3_word_23 2 rfl rfl ?_
      obtain ⟨a22, t23, tyt23, vs24, x21, e9, h25, h25t, h25r, h250, h25v, H⟩ := H; cases e9
      refine r_aaload (M := m_X3_word) (pc := 24) dX3_word_24 t23 tyt23 h25t h25r h25 h250 h25v ?_
      obtain ⟨a28, us29, e9, h30, H⟩ := H; cases e9
      refine r_V (M := m_X3_word) (pc := 25) dX3_word_25 m_J6_equals k_J6_equals q609 q610 21 _ rfl q611 (av := [va_rf _]) (dy := d) n_J6_equals h30 rfl (pw_c4 (Nat.le_of_ble_eq_true rfl)) (Nat.le_refl _) (H.mono (pw_nx_z (fun b27 w26 H1 => ?_)))
      replace H := H1; clear H1
      refine r_if_ne (M := m_X3_word) (pc := 28) dX3_word_28 34 (by decide) (fun hc => ?_) (fun hc => ?_)
      · replace H := f_if H hc
        refine r_aload_n (M := m_X3_word) (pc := 34) dX3_word_34 0 rfl rfl ?_
        obtain ⟨a32, us33, e9, h34, H⟩ := H; cases e9
        refine r_V (M := m_X3_word) (pc := 35) dX3_word_35 m_X3_step k_X3_step q315 q316 9 _ rfl q320 (av := []) (dy := d) n_X3_step h34 rfl (pw_c4 (Nat.le_of_ble_eq_true rfl)) (Nat.le_refl _) (H.mono (pw_nx_v (fun w31 H1 => ?_)))
        replace H := H1; clear H1
        refine r_iload_n (M := m_X3_word) (pc := 38) dX3_word_38 2 rfl rfl ?_
        exact r_ireturn (M := m_X3_word) (pc := 39) dX3_word_39 rfl H
      · replace H := f_it H hc
        refine r_goto (M := m_X3_word) (pc := 31) dX3_word_31 40 (by decide) ?_
        refine r_iinc (M := m_X3_word) (pc := 40) dX3_word_40 1 rfl rfl (Nat.le_of_ble_eq_true rfl) (pw_pre_rf rfl) ?_
        refine r_goto (M := m_X3_word) (pc := 43) dX3_word_43 2 (by decide) ?_
        exact pw_weak (le_s (le_s (le_s le_0))) H
theorem s_X3_word_K_2 {E : pw_E} {d : Nat} {w : pw_W} {Post : pw_R → pw_W → Prop} {k : Nat} (hk : k = 3 ∨ k = 8 ∨ k = 9) (v0 : Option Nat) (v1 : Option Nat) (v2 : Int32) (H : f_len w v1 (fun x1 => (if x1 ≤ v2 then f_V E w v0 k m_X3_wrong d [] (c_r (fun o7 w6 => (∃ q9 : Nat, o7 = some q9 ∧ x_out E w6 q9 Post))) else f_getr w v0 k 5 (fun x11 => f_str E 13 (fun x15 => (if x11 = x15 then f_getr w v0 k 6 (fun x17 => f_aldr w v1 v2 (fun x21 => f_V E w x17 21 m_J6_equals d [va_rf x21] (c_z (fun b27 w26 => (if (bI b27) = 0 then pw_Wp E m_X3_word (d + 1) 2 [some (va_rf v0), some (va_rf v1), some (.int (v2 + 1))] [] w26 Post else f_V E w26 v0 k m_X3_step d [] (c_v (fun w31 => Post (.inl (some (.int v2))) w31))))))) else pw_Wp E m_X3_word (d + 1) 2 [some (va_rf v0), some (va_rf v1), some (.int (v2 + 1))] [] w Post)))))) : pw_Wp E m_X3_word (d + 1) 2 [some (va_rf v0), some (va_rf v1), some (.int v2)] [] w Post := by
  rcases hk with rfl | rfl | rfl
  · exact s_X3_word_k3_2 v0 v1 v2 H
  · exact s_X3_word_k8_2 v0 v1 v2 H
  · exact s_X3_word_k9_2 v0 v1 v2 H
theorem s_X3_wrong_k3_0 {E : pw_E} {d : Nat} {w : pw_W} {Post : pw_R → pw_W → Prop} (v0 : Option Nat) (H : (fun w1 => f_geti w1 v0 3 3 (fun x2 => pw_Cl E m_X6_init d (va_rf (some w.2.1) :: [.int 1, .int x2]) w1 (c_v (fun w6 => Post (.inl (some (va_rf (some w.2.1)))) w6)))) (pw_new w (5, [va_rf none, va_rf none, va_rf none, va_rf none, va_rf none, .int 0, .int 0, .int 0]) 8)) : pw_Wp E m_X3_wrong (d + 1) 0 [some (va_rf v0)] [] w Post := by
  refine r_new (M := m_X3_wrong) (pc := 0) dX3_wrong_0 5 _ rfl (Nat.le_of_ble_eq_true rfl) q624 q625 q157 [va_rf none, va_rf none, va_rf none, va_rf none, va_rf none, .int 0, .int 0, .int 0] rfl 8 rfl ?_
  refine r_dup (M := m_X3_wrong) (pc := 3) dX3_wrong_3 (pw_cat_rf _) ?_
  refine r_iconst (M := m_X3_wrong) (pc := 4) dX3_wrong_4 1 rfl ?_
  refine r_aload_n (M := m_X3_wrong) (pc := 5) dX3_wrong_5 0 rfl rfl ?_
  obtain ⟨a3, fs4, x2, e9, h5, h5v, H⟩ := H; cases e9
  refine r_get (M := m_X3_wrong) (pc := 6) dX3_wrong_6 "VersionSearch$Reader" 3 3 _ rfl (Nat.le_of_ble_eq_true rfl) q552 (Or.inl rfl) h5 (Nat.le_of_ble_eq_true rfl) h5v ?_
  refine r_I (M := m_X3_wrong) (pc := 9) dX3_wrong_9 m_X6_init k_X6_init rfl rfl q661 q662 (av := [.int _, .int _]) (dy := d) n_X6_init rfl (pw_c4 (Nat.le_of_ble_eq_true rfl)) (Nat.le_refl _) (H.mono (pw_nx_v (fun w6 H1 => ?_)))
  replace H := H1; clear H1
  exact r_areturn (M := m_X3_wrong) (pc := 12) dX3_wrong_12 rfl (by simp) H
theorem s_X3_wrong_k8_0 {E : pw_E} {d : Nat} {w : pw_W} {Post : pw_R → pw_W → Prop} (v0 : Option Nat) (H : (fun w1 => f_geti w1 v0 8 3 (fun x2 => pw_Cl E m_X6_init d (va_rf (some w.2.1) :: [.int 1, .int x2]) w1 (c_v (fun w6 => Post (.inl (some (va_rf (some w.2.1)))) w6)))) (pw_new w (5, [va_rf none, va_rf none, va_rf none, va_rf none, va_rf none, .int 0, .int 0, .int 0]) 8)) : pw_Wp E m_X3_wrong (d + 1) 0 [some (va_rf v0)] [] w Post := by
  refine r_new (M := m_X3_wrong) (pc := 0) dX3_wrong_0 5 _ rfl (Nat.le_of_ble_eq_true rfl) q624 q625 q157 [va_rf none, va_rf none, va_rf none, va_rf none, va_rf none, .int 0, .int 0, .int 0] rfl 8 rfl ?_
  refine r_dup (M := m_X3_wrong) (pc := 3) dX3_wrong_3 (pw_cat_rf _) ?_
  refine r_iconst (M := m_X3_wrong) (pc := 4) dX3_wrong_4 1 rfl ?_
  refine r_aload_n (M := m_X3_wrong) (pc := 5) dX3_wrong_5 0 rfl rfl ?_
  obtain ⟨a3, fs4, x2, e9, h5, h5v, H⟩ := H; cases e9
  refine r_get (M := m_X3_wrong) (pc := 6) dX3_wrong_6 "VersionSearch$Reader" 8 3 _ rfl (Nat.le_of_ble_eq_true rfl) q552 (Or.inl rfl) h5 (Nat.le_of_ble_eq_true rfl) h5v ?_
  refine r_I (M := m_X3_wrong) (pc := 9) dX3_wrong_9 m_X6_init k_X6_init rfl rfl q661 q662 (av := [.int _, .int _]) (dy := d) n_X6_init rfl (pw_c4 (Nat.le_of_ble_eq_true rfl)) (Nat.le_refl _) (H.mono (pw_nx_v (fun w6 H1 => ?_)))
  replace H := H1; clear H1
  exact r_areturn (M := m_X3_wrong) (pc := 12) dX3_wrong_12 rfl (by simp) H
theorem s_X3_wrong_k9_0 {E : pw_E} {d : Nat} {w : pw_W} {Post : pw_R → pw_W → Prop} (v0 : Option Nat) (H : (fun w1 => f_geti w1 v0 9 3 (fun x2 => pw_Cl E m_X6_init d (va_rf (some w.2.1) :: [.int 1, .int x2]) w1 (c_v (fun w6 => Post (.inl (some (va_rf (some w.2.1)))) w6)))) (pw_new w (5, [va_rf none, va_rf none, va_rf none, va_rf none, va_rf none, .int 0, .int 0, .int 0]) 8)) : pw_Wp E m_X3_wrong (d + 1) 0 [some (va_rf v0)] [] w Post := by
  refine r_new (M := m_X3_wrong) (pc := 0) dX3_wrong_0 5 _ rfl (Nat.le_of_ble_eq_true rfl) q624 q625 q157 [va_rf none, va_rf none, va_rf none, va_rf none, va_rf none, .int 0, .int 0, .int 0] rfl 8 rfl ?_
  refine r_dup (M := m_X3_wrong) (pc := 3) dX3_wrong_3 (pw_cat_rf _) ?_
  refine r_iconst (M := m_X3_wrong) (pc := 4) dX3_wrong_4 1 rfl ?_
  refine r_aload_n (M := m_X3_wrong) (pc := 5) dX3_wrong_5 0 rfl rfl ?_
  obtain ⟨a3, fs4, x2, e9, h5, h5v, H⟩ := H; cases e9
  refine r_get (M := m_X3_wrong) (pc := 6) dX3_wrong_6 "VersionSearch$Reader" 9 3 _ rfl (Nat.le_of_ble_eq_true rfl) q552 (Or.inl rfl) h5 (Nat.le_of_ble_eq_true rfl) h5v ?_
  refine r_I (M := m_X3_wrong) (pc := 9) dX3_wrong_9 m_X6_init k_X6_init rfl rfl q661 q662 (av := [.int _, .int _]) (dy := d) n_X6_init rfl (pw_c4 (Nat.le_of_ble_eq_true rfl)) (Nat.le_refl _) (H.mono (pw_nx_v (fun w6 H1 => ?_)))
  replace H := H1; clear H1
  exact r_areturn (M := m_X3_wrong) (pc := 12) dX3_wrong_12 rfl (by simp) H
theorem s_X3_wrong_K_0 {E : pw_E} {d : Nat} {w : pw_W} {Post : pw_R → pw_W → Prop} {k : Nat} (hk : k = 3 ∨ k = 8 ∨ k = 9) (v0 : Option Nat) (H : (fun w1 => f_geti w1 v0 k 3 (fun x2 => pw_Cl E m_X6_init d (va_rf (some w.2.1) :: [.int 1, .int x2]) w1 (c_v (fun w6 => Post (.inl (some (va_rf (some w.2.1)))) w6)))) (pw_new w (5, [va_rf none, va_rf none, va_rf none, va_rf none, va_rf none, .int 0, .int 0, .int 0]) 8)) : pw_Wp E m_X3_wrong (d + 1) 0 [some (va_rf v0)] [] w Post := by
  rcases hk with rfl | rfl | rfl
  · exact s_X3_wrong_k3_0 v0 H
  · exact s_X3_wrong_k8_0 v0 H
  · exact s_X3_wrong_k9_0 v0 H
theorem s_X3_wrongHere_k3_0 {E : pw_E} {d : Nat} {w : pw_W} {Post : pw_R → pw_W → Prop} (v0 : Option Nat) (H : f_geti w v0 3 3 (fun x1 => f_V E w v0 3 m_X3_also d [.int 2, .int x1] (c_v (fun w5 => f_geti w5 v0 3 8 (fun x9 => f_put E w5 v0 3 8 (.int (x9 + 1)) (fun w16 => Post (.inl none) w16)))))) : pw_Wp E m_X3_wrongHere (d + 1) 0 [some (va_rf v0)] [] w Post := by
  refine r_aload_n (M := m_X3_wrongHere) (pc := 0) dX3_wrongHere_0 0 rfl rfl ?_
  refine r_iconst (M := m_X3_wrongHere) (pc := 1) dX3_wrongHere_1 2 rfl ?_
  refine r_aload_n (M := m_X3_wrongHere) (pc := 2) dX3_wrongHere_2 0 rfl rfl ?_
  obtain ⟨a2, fs3, x1, e9, h4, h4v, H⟩ := H; cases e9
  refine r_get (M := m_X3_wrongHere) (pc := 3) dX3_wrongHere_3 "VersionSearch$Reader" 3 3 _ rfl (Nat.le_of_ble_eq_true rfl) q552 (Or.inl rfl) h4 (Nat.le_of_ble_eq_true rfl) h4v ?_
  obtain ⟨a6, us7, e9, h8, H⟩ := H; cases e9
  refine r_V (M := m_X3_wrongHere) (pc := 6) dX3_wrongHere_6 m_X3_also k_X3_also q764 q699 3 _ rfl q3214 (av := [.int _, .int _]) (dy := d) n_X3_also h8 rfl (pw_c4 (Nat.le_of_ble_eq_true rfl)) (Nat.le_refl _) (H.mono (pw_nx_v (fun w5 H1 => ?_)))
  replace H := H1; clear H1
  refine r_aload_n (M := m_X3_wrongHere) (pc := 9) dX3_wrongHere_9 0 rfl rfl ?_
  refine r_dup (M := m_X3_wrongHere) (pc := 10) dX3_wrongHere_10 (pw_cat_rf _) ?_
  obtain ⟨a10, fs11, x9, e9, h12, h12v, H⟩ := H; cases e9
  refine r_get (M := m_X3_wrongHere) (pc := 11) dX3_wrongHere_11 "VersionSearch$Reader" 3 8 _ rfl (Nat.le_of_ble_eq_true rfl) q557 (Or.inl rfl) h12 (Nat.le_of_ble_eq_true rfl) h12v ?_
  refine r_iconst (M := m_X3_wrongHere) (pc := 14) dX3_wrongHere_14 1 rfl ?_
  refine r_iadd (M := m_X3_wrongHere) (pc := 15) dX3_wrongHere_15 ?_
  obtain ⟨a13, fs14, e9, h15, h15b, H⟩ := H; cases e9
  refine r_put (M := m_X3_wrongHere) (pc := 16) dX3_wrongHere_16 "VersionSearch$Reader" 3 8 _ rfl (Nat.le_of_ble_eq_true rfl) q557 (Or.inl rfl) rfl h15 (Nat.le_of_ble_eq_true rfl) h15b rfl rfl ?_
  exact r_return (M := m_X3_wrongHere) (pc := 19) dX3_wrongHere_19 rfl H
theorem s_X3_wrongHere_k8_0 {E : pw_E} {d : Nat} {w : pw_W} {Post : pw_R → pw_W → Prop} (v0 : Option Nat) (H : f_geti w v0 8 3 (fun x1 => f_V E w v0 8 m_X3_also d [.int 2, .int x1] (c_v (fun w5 => f_geti w5 v0 8 8 (fun x9 => f_put E w5 v0 8 8 (.int (x9 + 1)) (fun w16 => Post (.inl none) w16)))))) : pw_Wp E m_X3_wrongHere (d + 1) 0 [some (va_rf v0)] [] w Post := by
  refine r_aload_n (M := m_X3_wrongHere) (pc := 0) dX3_wrongHere_0 0 rfl rfl ?_
  refine r_iconst (M := m_X3_wrongHere) (pc := 1) dX3_wrongHere_1 2 rfl ?_
  refine r_aload_n (M := m_X3_wrongHere) (pc := 2) dX3_wrongHere_2 0 rfl rfl ?_
  obtain ⟨a2, fs3, x1, e9, h4, h4v, H⟩ := H; cases e9
  refine r_get (M := m_X3_wrongHere) (pc := 3) dX3_wrongHere_3 "VersionSearch$Reader" 8 3 _ rfl (Nat.le_of_ble_eq_true rfl) q552 (Or.inl rfl) h4 (Nat.le_of_ble_eq_true rfl) h4v ?_
  obtain ⟨a6, us7, e9, h8, H⟩ := H; cases e9
  refine r_V (M := m_X3_wrongHere) (pc := 6) dX3_wrongHere_6 m_X3_also k_X3_also q764 q699 8 _ rfl q3215 (av := [.int _, .int _]) (dy := d) n_X3_also h8 rfl (pw_c4 (Nat.le_of_ble_eq_true rfl)) (Nat.le_refl _) (H.mono (pw_nx_v (fun w5 H1 => ?_)))
  replace H := H1; clear H1
  refine r_aload_n (M := m_X3_wrongHere) (pc := 9) dX3_wrongHere_9 0 rfl rfl ?_
  refine r_dup (M := m_X3_wrongHere) (pc := 10) dX3_wrongHere_10 (pw_cat_rf _) ?_
  obtain ⟨a10, fs11, x9, e9, h12, h12v, H⟩ := H; cases e9
  refine r_get (M := m_X3_wrongHere) (pc := 11) dX3_wrongHere_11 "VersionSearch$Reader" 8 8 _ rfl (Nat.le_of_ble_eq_true rfl) q557 (Or.inl rfl) h12 (Nat.le_of_ble_eq_true rfl) h12v ?_
  refine r_iconst (M := m_X3_wrongHere) (pc := 14) dX3_wrongHere_14 1 rfl ?_
  refine r_iadd (M := m_X3_wrongHere) (pc := 15) dX3_wrongHere_15 ?_
  obtain ⟨a13, fs14, e9, h15, h15b, H⟩ := H; cases e9
  refine r_put (M := m_X3_wrongHere) (pc := 16) dX3_wrongHere_16 "VersionSearch$Reader" 8 8 _ rfl (Nat.le_of_ble_eq_true rfl) q557 (Or.inl rfl) rfl h15 (Nat.le_of_ble_eq_true rfl) h15b rfl rfl ?_
  exact r_return (M := m_X3_wrongHere) (pc := 19) dX3_wrongHere_19 rfl H
theorem s_X3_wrongHere_k9_0 {E : pw_E} {d : Nat} {w : pw_W} {Post : pw_R → pw_W → Prop} (v0 : Option Nat) (H : f_geti w v0 9 3 (fun x1 => f_V E w v0 9 m_X3_also d [.int 2, .int x1] (c_v (fun w5 => f_geti w5 v0 9 8 (fun x9 => f_put E w5 v0 9 8 (.int (x9 + 1)) (fun w16 => Post (.inl none) w16)))))) : pw_Wp E m_X3_wrongHere (d + 1) 0 [some (va_rf v0)] [] w Post := by
  refine r_aload_n (M := m_X3_wrongHere) (pc := 0) dX3_wrongHere_0 0 rfl rfl ?_
  refine r_iconst (M := m_X3_wrongHere) (pc := 1) dX3_wrongHere_1 2 rfl ?_
  refine r_aload_n (M := m_X3_wrongHere) (pc := 2) dX3_wrongHere_2 0 rfl rfl ?_
  obtain ⟨a2, fs3, x1, e9, h4, h4v, H⟩ := H; cases e9
  refine r_get (M := m_X3_wrongHere) (pc := 3) dX3_wrongHere_3 "VersionSearch$Reader" 9 3 _ rfl (Nat.le_of_ble_eq_true rfl) q552 (Or.inl rfl) h4 (Nat.le_of_ble_eq_true rfl) h4v ?_
  obtain ⟨a6, us7, e9, h8, H⟩ := H; cases e9
  refine r_V (M := m_X3_wrongHere) (pc := 6) dX3_wrongHere_6 m_X3_also k_X3_also q764 q699 9 _ rfl q3216 (av := [.int _, .int _]) (dy := d) n_X3_also h8 rfl (pw_c4 (Nat.le_of_ble_eq_true rfl)) (Nat.le_refl _) (H.mono (pw_nx_v (fun w5 H1 => ?_)))
  replace H := H1; clear H1
  refine r_aload_n (M := m_X3_wrongHere) (pc := 9) dX3_wrongHere_9 0 rfl rfl ?_
  refine r_dup (M := m_X3_wrongHere) (pc := 10) dX3_wrongHere_10 (pw_cat_rf _) ?_
  obtain ⟨a10, fs11, x9, e9, h12, h12v, H⟩ := H; cases e9
  refine r_get (M := m_X3_wrongHere) (pc := 11) dX3_wrongHere_11 "VersionSearch$Reader" 9 8 _ rfl (Nat.le_of_ble_eq_true rfl) q557 (Or.inl rfl) h12 (Nat.le_of_ble_eq_true rfl) h12v ?_
  refine r_iconst (M := m_X3_wrongHere) (pc := 14) dX3_wrongHere_14 1 rfl ?_
  refine r_iadd (M := m_X3_wrongHere) (pc := 15) dX3_wrongHere_15 ?_
  obtain ⟨a13, fs14, e9, h15, h15b, H⟩ := H; cases e9
  refine r_put (M := m_X3_wrongHere) (pc := 16) dX3_wrongHere_16 "VersionSearch$Reader" 9 8 _ rfl (Nat.le_of_ble_eq_true rfl) q557 (Or.inl rfl) rfl h15 (Nat.le_of_ble_eq_true rfl) h15b rfl rfl ?_
  exact r_return (M := m_X3_wrongHere) (pc := 19) dX3_wrongHere_19 rfl H
theorem s_X3_wrongHere_K_0 {E : pw_E} {d : Nat} {w : pw_W} {Post : pw_R → pw_W → Prop} {k : Nat} (hk : k = 3 ∨ k = 8 ∨ k = 9) (v0 : Option Nat) (H : f_geti w v0 k 3 (fun x1 => f_V E w v0 k m_X3_also d [.int 2, .int x1] (c_v (fun w5 => f_geti w5 v0 k 8 (fun x9 => f_put E w5 v0 k 8 (.int (x9 + 1)) (fun w16 => Post (.inl none) w16)))))) : pw_Wp E m_X3_wrongHere (d + 1) 0 [some (va_rf v0)] [] w Post := by
  rcases hk with rfl | rfl | rfl
  · exact s_X3_wrongHere_k3_0 v0 H
  · exact s_X3_wrongHere_k8_0 v0 H
  · exact s_X3_wrongHere_k9_0 v0 H
theorem s_X3_wrongs_k3_0 {E : pw_E} {d : Nat} {w : pw_W} {Post : pw_R → pw_W → Prop} (v0 : Option Nat) (H : f_geti w v0 3 8 (fun x1 => Post (.inl (some (.int x1))) w)) : pw_Wp E m_X3_wrongs (d + 1) 0 [some (va_rf v0)] [] w Post := by
  refine r_aload_n (M := m_X3_wrongs) (pc := 0) dX3_wrongs_0 0 rfl rfl ?_
  obtain ⟨a2, fs3, x1, e9, h4, h4v, H⟩ := H; cases e9
  refine r_get (M := m_X3_wrongs) (pc := 1) dX3_wrongs_1 "VersionSearch$Reader" 3 8 _ rfl (Nat.le_of_ble_eq_true rfl) q557 (Or.inl rfl) h4 (Nat.le_of_ble_eq_true rfl) h4v ?_
  exact r_ireturn (M := m_X3_wrongs) (pc := 4) dX3_wrongs_4 rfl H
theorem s_X3_wrongs_k8_0 {E : pw_E} {d : Nat} {w : pw_W} {Post : pw_R → pw_W → Prop} (v0 : Option Nat) (H : f_geti w v0 8 8 (fun x1 => Post (.inl (some (.int x1))) w)) : pw_Wp E m_X3_wrongs (d + 1) 0 [some (va_rf v0)] [] w Post := by
  refine r_aload_n (M := m_X3_wrongs) (pc := 0) dX3_wrongs_0 0 rfl rfl ?_
  obtain ⟨a2, fs3, x1, e9, h4, h4v, H⟩ := H; cases e9
  refine r_get (M := m_X3_wrongs) (pc := 1) dX3_wrongs_1 "VersionSearch$Reader" 8 8 _ rfl (Nat.le_of_ble_eq_true rfl) q557 (Or.inl rfl) h4 (Nat.le_of_ble_eq_true rfl) h4v ?_
  exact r_ireturn (M := m_X3_wrongs) (pc := 4) dX3_wrongs_4 rfl H
theorem s_X3_wrongs_k9_0 {E : pw_E} {d : Nat} {w : pw_W} {Post : pw_R → pw_W → Prop} (v0 : Option Nat) (H : f_geti w v0 9 8 (fun x1 => Post (.inl (some (.int x1))) w)) : pw_Wp E m_X3_wrongs (d + 1) 0 [some (va_rf v0)] [] w Post := by
  refine r_aload_n (M := m_X3_wrongs) (pc := 0) dX3_wrongs_0 0 rfl rfl ?_
  obtain ⟨a2, fs3, x1, e9, h4, h4v, H⟩ := H; cases e9
  refine r_get (M := m_X3_wrongs) (pc := 1) dX3_wrongs_1 "VersionSearch$Reader" 9 8 _ rfl (Nat.le_of_ble_eq_true rfl) q557 (Or.inl rfl) h4 (Nat.le_of_ble_eq_true rfl) h4v ?_
  exact r_ireturn (M := m_X3_wrongs) (pc := 4) dX3_wrongs_4 rfl H
theorem s_X3_wrongs_K_0 {E : pw_E} {d : Nat} {w : pw_W} {Post : pw_R → pw_W → Prop} {k : Nat} (hk : k = 3 ∨ k = 8 ∨ k = 9) (v0 : Option Nat) (H : f_geti w v0 k 8 (fun x1 => Post (.inl (some (.int x1))) w)) : pw_Wp E m_X3_wrongs (d + 1) 0 [some (va_rf v0)] [] w Post := by
  rcases hk with rfl | rfl | rfl
  · exact s_X3_wrongs_k3_0 v0 H
  · exact s_X3_wrongs_k8_0 v0 H
  · exact s_X3_wrongs_k9_0 v0 H
