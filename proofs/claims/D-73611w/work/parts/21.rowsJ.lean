set_option maxRecDepth 100000
theorem s_J0_finishToArray_0 {E : pw_E} {d : Nat} {w : pw_W} {Post : pw_R → pw_W → Prop} (v0 : Option Nat) (v1 : Option Nat) (H : f_len w v0 (fun x1 => pw_Wp E m_J0_finishToArray (d + 1) 5 [some (va_rf v0), some (va_rf v1), some (.int x1), some (.int x1)] [] w Post)) : pw_Wp E m_J0_finishToArray (d + 1) 0 [some (va_rf v0), some (va_rf v1), none, none] [] w Post := by
  refine r_aload_n (M := m_J0_finishToArray) (pc := 0) dJ0_finishToArray_0 0 rfl rfl ?_
  obtain ⟨a2, t3, tyt3, vs4, e9, h5, h5t, H⟩ := H; cases e9
  refine r_alen (M := m_J0_finishToArray) (pc := 1) dJ0_finishToArray_1 t3 tyt3 h5t h5 ?_
  refine r_istore_n (M := m_J0_finishToArray) (pc := 2) dJ0_finishToArray_2 2 rfl (Nat.le_of_ble_eq_true rfl) (pw_pre_rf rfl) ?_
  refine r_iload_n (M := m_J0_finishToArray) (pc := 3) dJ0_finishToArray_3 2 rfl rfl ?_
  refine r_istore_n (M := m_J0_finishToArray) (pc := 4) dJ0_finishToArray_4 3 rfl (Nat.le_of_ble_eq_true rfl) rfl ?_
  exact pw_weak (le_s (le_s (le_s (le_s le_0)))) H
theorem s_J0_finishToArray_5 {E : pw_E} {d : Nat} {w : pw_W} {Post : pw_R → pw_W → Prop} (v0 : Option Nat) (v1 : Option Nat) (v2 : Int32) (v3 : Int32) (H : f_VA E w v1 [(19, m_J15_hasNext), (25, m_J27_hasNext)] d [] (c_z (fun b2 w1 => (if (bI b2) = 0 then (if v3 = v2 then Post (.inl (some (va_rf v0))) w1 else pw_Cl E m_J10_copyOf_2 d [va_rf v0, .int v3] w1 (c_r (fun o8 w7 => Post (.inl (some (va_rf o8))) w7))) else (if v3 = v2 then pw_Cl E m_J8_newLength d [.int v2, .int 1, .int ((v2 >>> (1 &&& 31)) + 1)] w1 (c_i (fun x21 w20 => pw_Cl E m_J10_copyOf_2 d [va_rf v0, .int x21] w20 (c_r (fun o23 w22 => f_VA E w22 v1 [(19, m_J15_next), (25, m_J28_next)] d [] (c_r (fun o25 w24 => f_astr E w24 o23 v3 o25 (fun w34 => pw_Wp E m_J0_finishToArray (d + 1) 5 [some (va_rf o23), some (va_rf v1), some (.int x21), some (.int (v3 + 1))] [] w34 Post))))))) else f_VA E w1 v1 [(19, m_J15_next), (25, m_J28_next)] d [] (c_r (fun o10 w9 => f_astr E w9 v0 v3 o10 (fun w19 => pw_Wp E m_J0_finishToArray (d + 1) 5 [some (va_rf v0), some (va_rf v1), some (.int v2), some (.int (v3 + 1))] [] w19 Post)))))))) : pw_Wp E m_J0_finishToArray (d + 1) 5 [some (va_rf v0), some (va_rf v1), some (.int v2), some (.int v3)] [] w Post := by
  refine r_aload_n (M := m_J0_finishToArray) (pc := 5) dJ0_finishToArray_5 1 rfl rfl ?_
  obtain ⟨a3, us4, k6, M9, e9, h5, hk9, H⟩ := H; cases e9
  refine r_alt2 hk9 H (nx := pw_nx E m_J0_finishToArray (d + 1) 6 5 _ _ Post) (pw_nx_z (fun b2 w1 H1 => ?_)) (fun e9 H => by subst e9; exact r_F (M := m_J0_finishToArray) (pc := 6) dJ0_finishToArray_6 ⟨"java/util/Iterator", "hasNext", "()Z"⟩ m_J15_hasNext k_J15_hasNext q2489 q863 19 _ rfl q861 (pw_fwm 0 rfl) (av := []) (dy := d) (pw_nyt (n := 0) (by decide +kernel) (by decide +kernel)) h5 rfl (pw_c4 (Nat.le_of_ble_eq_true rfl)) (Nat.le_refl _) H) (fun e9 H => by subst e9; exact r_F (M := m_J0_finishToArray) (pc := 6) dJ0_finishToArray_6 ⟨"java/util/Iterator", "hasNext", "()Z"⟩ m_J27_hasNext k_J27_hasNext q2489 q879 25 _ rfl q877 (pw_fwm 2 rfl) (av := []) (dy := d) (pw_nyt (n := 0) (by decide +kernel) (by decide +kernel)) h5 rfl (pw_c4 (Nat.le_of_ble_eq_true rfl)) (Nat.le_refl _) H)
  replace H := H1; clear H1
  refine r_if_eq (M := m_J0_finishToArray) (pc := 11) dJ0_finishToArray_11 51 (by decide) (fun hc => ?_) (fun hc => ?_)
  · replace H := f_it H hc
    refine r_iload_n (M := m_J0_finishToArray) (pc := 51) dJ0_finishToArray_51 3 rfl rfl ?_
    refine r_iload_n (M := m_J0_finishToArray) (pc := 52) dJ0_finishToArray_52 2 rfl rfl ?_
    refine r_icmp_ne (M := m_J0_finishToArray) (pc := 53) dJ0_finishToArray_53 60 (by decide) (fun hc => ?_) (fun hc => ?_)
    · replace H := f_if H hc
      refine r_aload_n (M := m_J0_finishToArray) (pc := 60) dJ0_finishToArray_60 0 rfl rfl ?_
      refine r_iload_n (M := m_J0_finishToArray) (pc := 61) dJ0_finishToArray_61 3 rfl rfl ?_
      refine r_S (M := m_J0_finishToArray) (pc := 62) dJ0_finishToArray_62 m_J10_copyOf_2 k_J10_copyOf_2 q2490 q783 (av := [va_rf _, .int _]) (dy := d) n_J10_copyOf_2 rfl (pw_c4 (Nat.le_of_ble_eq_true rfl)) (Nat.le_refl _) (H.mono (pw_nx_r (fun o8 w7 H1 => ?_)))
      replace H := H1; clear H1
      exact r_areturn (M := m_J0_finishToArray) (pc := 65) dJ0_finishToArray_65 rfl (by simp) H
    · replace H := f_it H hc
      refine r_aload_n (M := m_J0_finishToArray) (pc := 56) dJ0_finishToArray_56 0 rfl rfl ?_
      refine r_goto (M := m_J0_finishToArray) (pc := 57) dJ0_finishToArray_57 65 (by decide) ?_
      exact r_areturn (M := m_J0_finishToArray) (pc := 65) dJ0_finishToArray_65 rfl (by simp) H
  · replace H := f_if H hc
    refine r_iload_n (M := m_J0_finishToArray) (pc := 14) dJ0_finishToArray_14 3 rfl rfl ?_
    refine r_iload_n (M := m_J0_finishToArray) (pc := 15) dJ0_finishToArray_15 2 rfl rfl ?_
    refine r_icmp_ne (M := m_J0_finishToArray) (pc := 16) dJ0_finishToArray_16 36 (by decide) (fun hc => ?_) (fun hc => ?_)
    · replace H := f_if H hc
      refine r_aload_n (M := m_J0_finishToArray) (pc := 36) dJ0_finishToArray_36 0 rfl rfl ?_
      refine r_iload_n (M := m_J0_finishToArray) (pc := 37) dJ0_finishToArray_37 3 rfl rfl ?_
      refine r_iinc (M := m_J0_finishToArray) (pc := 38) dJ0_finishToArray_38 1 rfl rfl (Nat.le_of_ble_eq_true rfl) rfl ?_
      refine r_aload_n (M := m_J0_finishToArray) (pc := 41) dJ0_finishToArray_41 1 rfl rfl ?_
      obtain ⟨a11, us12, k14, M9, e9, h13, hk9, H⟩ := H; cases e9
      refine r_alt2 hk9 H (nx := pw_nx E m_J0_finishToArray (d + 1) 42 5 _ _ Post) (pw_nx_r (fun o10 w9 H1 => ?_)) (fun e9 H => by subst e9; exact r_F (M := m_J0_finishToArray) (pc := 42) dJ0_finishToArray_42 ⟨"java/util/Iterator", "next", "()Ljava/lang/Object;"⟩ m_J15_next k_J15_next q2492 q888 19 _ rfl q886 (pw_fwm 1 rfl) (av := []) (dy := d) (pw_nyt (n := 0) (by decide +kernel) (by decide +kernel)) h13 rfl (pw_c4 (Nat.le_of_ble_eq_true rfl)) (Nat.le_refl _) H) (fun e9 H => by subst e9; exact r_F (M := m_J0_finishToArray) (pc := 42) dJ0_finishToArray_42 ⟨"java/util/Iterator", "next", "()Ljava/lang/Object;"⟩ m_J28_next k_J28_next q2492 q916 25 _ rfl q914 (pw_fwm 3 rfl) (av := []) (dy := d) (pw_nyt (n := 0) (by decide +kernel) (by decide +kernel)) h13 rfl (pw_c4 (Nat.le_of_ble_eq_true rfl)) (Nat.le_refl _) H)
      replace H := H1; clear H1
      obtain ⟨a15, t16, Ct16, vs17, e9, h18, h18t, h186, h18b, h180, h18l, h18o, H⟩ := H; cases e9
      refine r_aastore (M := m_J0_finishToArray) (pc := 47) dJ0_finishToArray_47 t16 Ct16 h18t h186 h18 h18b h180 h18l h18o ?_
      refine r_goto (M := m_J0_finishToArray) (pc := 48) dJ0_finishToArray_48 5 (by decide) ?_
      exact pw_weak (le_s (le_s (le_s (le_s le_0)))) H
    · replace H := f_it H hc
      refine r_iload_n (M := m_J0_finishToArray) (pc := 19) dJ0_finishToArray_19 2 rfl rfl ?_
      refine r_iconst (M := m_J0_finishToArray) (pc := 20) dJ0_finishToArray_20 1 rfl ?_
      refine r_iload_n (M := m_J0_finishToArray) (pc := 21) dJ0_finishToArray_21 2 rfl rfl ?_
      refine r_iconst (M := m_J0_finishToArray) (pc := 22) dJ0_finishToArray_22 1 rfl ?_
      refine r_ishr (M := m_J0_finishToArray) (pc := 23) dJ0_finishToArray_23 ?_
      refine r_iconst (M := m_J0_finishToArray) (pc := 24) dJ0_finishToArray_24 1 rfl ?_
      refine r_iadd (M := m_J0_finishToArray) (pc := 25) dJ0_finishToArray_25 ?_
      refine r_S (M := m_J0_finishToArray) (pc := 26) dJ0_finishToArray_26 m_J8_newLength k_J8_newLength q2496 q385 (av := [.int _, .int _, .int _]) (dy := d) n_J8_newLength rfl (pw_c4 (Nat.le_of_ble_eq_true rfl)) (Nat.le_refl _) (H.mono (pw_nx_i (fun x21 w20 H1 => ?_)))
      replace H := H1; clear H1
      refine r_istore_n (M := m_J0_finishToArray) (pc := 29) dJ0_finishToArray_29 2 rfl (Nat.le_of_ble_eq_true rfl) (pw_pre_rf rfl) ?_
      refine r_aload_n (M := m_J0_finishToArray) (pc := 30) dJ0_finishToArray_30 0 rfl rfl ?_
      refine r_iload_n (M := m_J0_finishToArray) (pc := 31) dJ0_finishToArray_31 2 rfl rfl ?_
      refine r_S (M := m_J0_finishToArray) (pc := 32) dJ0_finishToArray_32 m_J10_copyOf_2 k_J10_copyOf_2 q2490 q783 (av := [va_rf _, .int _]) (dy := d) n_J10_copyOf_2 rfl (pw_c4 (Nat.le_of_ble_eq_true rfl)) (Nat.le_refl _) (H.mono (pw_nx_r (fun o23 w22 H1 => ?_)))
      replace H := H1; clear H1
      refine r_astore_n (M := m_J0_finishToArray) (pc := 35) dJ0_finishToArray_35 0 rfl (Nat.le_of_ble_eq_true rfl) rfl ?_
      refine r_aload_n (M := m_J0_finishToArray) (pc := 36) dJ0_finishToArray_36 0 rfl rfl ?_
      refine r_iload_n (M := m_J0_finishToArray) (pc := 37) dJ0_finishToArray_37 3 rfl rfl ?_
      refine r_iinc (M := m_J0_finishToArray) (pc := 38) dJ0_finishToArray_38 1 rfl rfl (Nat.le_of_ble_eq_true rfl) rfl ?_
      refine r_aload_n (M := m_J0_finishToArray) (pc := 41) dJ0_finishToArray_41 1 rfl rfl ?_
      obtain ⟨a26, us27, k29, M9, e9, h28, hk9, H⟩ := H; cases e9
      refine r_alt2 hk9 H (nx := pw_nx E m_J0_finishToArray (d + 1) 42 5 _ _ Post) (pw_nx_r (fun o25 w24 H1 => ?_)) (fun e9 H => by subst e9; exact r_F (M := m_J0_finishToArray) (pc := 42) dJ0_finishToArray_42 ⟨"java/util/Iterator", "next", "()Ljava/lang/Object;"⟩ m_J15_next k_J15_next q2492 q888 19 _ rfl q886 (pw_fwm 1 rfl) (av := []) (dy := d) (pw_nyt (n := 0) (by decide +kernel) (by decide +kernel)) h28 rfl (pw_c4 (Nat.le_of_ble_eq_true rfl)) (Nat.le_refl _) H) (fun e9 H => by subst e9; exact r_F (M := m_J0_finishToArray) (pc := 42) dJ0_finishToArray_42 ⟨"java/util/Iterator", "next", "()Ljava/lang/Object;"⟩ m_J28_next k_J28_next q2492 q916 25 _ rfl q914 (pw_fwm 3 rfl) (av := []) (dy := d) (pw_nyt (n := 0) (by decide +kernel) (by decide +kernel)) h28 rfl (pw_c4 (Nat.le_of_ble_eq_true rfl)) (Nat.le_refl _) H)
      replace H := H1; clear H1
      obtain ⟨a30, t31, Ct31, vs32, e9, h33, h33t, h336, h33b, h330, h33l, h33o, H⟩ := H; cases e9
      refine r_aastore (M := m_J0_finishToArray) (pc := 47) dJ0_finishToArray_47 t31 Ct31 h33t h336 h33 h33b h330 h33l h33o ?_
      refine r_goto (M := m_J0_finishToArray) (pc := 48) dJ0_finishToArray_48 5 (by decide) ?_
      exact pw_weak (le_s (le_s (le_s (le_s le_0)))) H
theorem e_J0_finishToArray {E : pw_E} {d : Nat} {w : pw_W} {Post : pw_R → pw_W → Prop} (v0 : Option Nat) (v1 : Option Nat) (H : pw_Wp E m_J0_finishToArray d 0 [some (va_rf v0), some (va_rf v1), none, none] [] w Post) : pw_Cl E m_J0_finishToArray d [va_rf v0, va_rf v1] w Post := pw_meth (by decide) rfl (pw_e1 (pw_cat_rf _) (pw_e1 (pw_cat_rf _) (pw_e0 (n := 2)))) H
theorem s_J0_init_0 {E : pw_E} {d : Nat} {w : pw_W} {Post : pw_R → pw_W → Prop} (a0 : Nat) (H : Post (.inl none) w) : pw_Wp E m_J0_init (d + 1) 0 [some (va_rf (some a0))] [] w Post := by
  refine r_aload_n (M := m_J0_init) (pc := 0) dJ0_init_0 0 rfl rfl ?_
  refine r_objInit (M := m_J0_init) (pc := 1) dJ0_init_1 q216 q197 q198 (Nat.succ_pos _) (Nat.le_of_ble_eq_true rfl) ?_
  exact r_return (M := m_J0_init) (pc := 4) dJ0_init_4 rfl H
theorem e_J0_init {E : pw_E} {d : Nat} {w : pw_W} {Post : pw_R → pw_W → Prop} (a0 : Nat) (H : pw_Wp E m_J0_init d 0 [some (va_rf (some a0))] [] w Post) : pw_Cl E m_J0_init d [va_rf (some a0)] w Post := pw_meth (by decide) rfl (pw_e1 (pw_cat_rf _) (pw_e0 (n := 0))) H
theorem s_J0_toArray_0 {E : pw_E} {d : Nat} {w : pw_W} {Post : pw_R → pw_W → Prop} (v0 : Option Nat) (H : f_V E w v0 18 m_J2_size d [] (c_i (fun x2 w1 => f_newa w1 3 x2 (va_rf none) (fun w6 => f_V E w6 v0 18 m_J2_iterator d [] (c_r (fun o8 w7 => pw_Wp E m_J0_toArray (d + 1) 15 [none, some (va_rf (some w1.2.1)), some (va_rf o8), some (.int 0)] [] w7 Post)))))) : pw_Wp E m_J0_toArray (d + 1) 0 [some (va_rf v0), none, none, none] [] w Post := by
  refine r_aload_n (M := m_J0_toArray) (pc := 0) dJ0_toArray_0 0 rfl rfl ?_
  obtain ⟨a3, us4, e9, h5, H⟩ := H; cases e9
  refine r_U (M := m_J0_toArray) (pc := 1) dJ0_toArray_1 ⟨"java/util/AbstractCollection", "size", "()I"⟩ "java/util/AbstractCollection" m_J2_size k_J2_size q2443 q2445 q295 18 _ rfl q2446 (Or.inl q2444) ⟨by decide +kernel, by decide +kernel⟩ (av := []) (dy := d) (pw_nyl (n := 0) (by decide +kernel)) h5 rfl (pw_c4 (Nat.le_of_ble_eq_true rfl)) (Nat.le_refl _) (H.mono (pw_nx_i (fun x2 w1 H1 => ?_)))
  replace H := H1; clear H1
  obtain ⟨hn0, hnb, H⟩ := H
  refine r_anewarray (M := m_J0_toArray) (pc := 4) dJ0_toArray_4 3 "java/lang/Object" rfl (Nat.le_of_ble_eq_true rfl) (by simp) q2453 hn0 (by omega) ?_
  refine r_astore_n (M := m_J0_toArray) (pc := 7) dJ0_toArray_7 1 rfl (Nat.le_of_ble_eq_true rfl) (pw_pre_rf rfl) ?_
  refine r_aload_n (M := m_J0_toArray) (pc := 8) dJ0_toArray_8 0 rfl rfl ?_
  obtain ⟨a9, us10, e9, h11, H⟩ := H; cases e9
  refine r_U (M := m_J0_toArray) (pc := 9) dJ0_toArray_9 ⟨"java/util/AbstractCollection", "iterator", "()Ljava/util/Iterator;"⟩ "java/util/AbstractCollection" m_J2_iterator k_J2_iterator q2454 q2456 q834 18 _ rfl q2457 (Or.inl q2455) ⟨by decide +kernel, by decide +kernel⟩ (av := []) (dy := d) (pw_nyl (n := 0) (by decide +kernel)) h11 rfl (pw_c4 (Nat.le_of_ble_eq_true rfl)) (Nat.le_refl _) (H.mono (pw_nx_r (fun o8 w7 H1 => ?_)))
  replace H := H1; clear H1
  refine r_astore_n (M := m_J0_toArray) (pc := 12) dJ0_toArray_12 2 rfl (Nat.le_of_ble_eq_true rfl) (pw_pre_rf rfl) ?_
  refine r_iconst (M := m_J0_toArray) (pc := 13) dJ0_toArray_13 0 rfl ?_
  refine r_istore_n (M := m_J0_toArray) (pc := 14) dJ0_toArray_14 3 rfl (Nat.le_of_ble_eq_true rfl) (pw_pre_rf rfl) ?_
  exact pw_weak (le_n (le_s (le_s (le_s le_0)))) H
theorem s_J0_toArray_15 {E : pw_E} {d : Nat} {w : pw_W} {Post : pw_R → pw_W → Prop} (v1 : Option Nat) (v2 : Option Nat) (v3 : Int32) (H : f_len w v1 (fun x1 => (if x1 ≤ v3 then f_VA E w v2 [(19, m_J15_hasNext), (25, m_J27_hasNext)] d [] (c_z (fun b7 w6 => (if (bI b7) = 0 then Post (.inl (some (va_rf v1))) w6 else pw_Cl E m_J0_finishToArray d [va_rf v1, va_rf v2] w6 (c_r (fun o13 w12 => Post (.inl (some (va_rf o13))) w12))))) else f_VA E w v2 [(19, m_J15_hasNext), (25, m_J27_hasNext)] d [] (c_z (fun b15 w14 => (if (bI b15) = 0 then pw_Cl E m_J10_copyOf_2 d [va_rf v1, .int v3] w14 (c_r (fun o32 w31 => Post (.inl (some (va_rf o32))) w31)) else f_VA E w14 v2 [(19, m_J15_next), (25, m_J28_next)] d [] (c_r (fun o21 w20 => f_astr E w20 v1 v3 o21 (fun w30 => pw_Wp E m_J0_toArray (d + 1) 15 [none, some (va_rf v1), some (va_rf v2), some (.int (v3 + 1))] [] w30 Post))))))))) : pw_Wp E m_J0_toArray (d + 1) 15 [none, some (va_rf v1), some (va_rf v2), some (.int v3)] [] w Post := by
  refine r_iload_n (M := m_J0_toArray) (pc := 15) dJ0_toArray_15 3 rfl rfl ?_
  refine r_aload_n (M := m_J0_toArray) (pc := 16) dJ0_toArray_16 1 rfl rfl ?_
  obtain ⟨a2, t3, tyt3, vs4, e9, h5, h5t, H⟩ := H; cases e9
  refine r_alen (M := m_J0_toArray) (pc := 17) dJ0_toArray_17 t3 tyt3 h5t h5 ?_
  refine r_icmp_ge (M := m_J0_toArray) (pc := 18) dJ0_toArray_18 51 (by decide) (fun hc => ?_) (fun hc => ?_)
  · replace H := f_it H hc
    refine r_aload_n (M := m_J0_toArray) (pc := 51) dJ0_toArray_51 2 rfl rfl ?_
    obtain ⟨a8, us9, k11, M9, e9, h10, hk9, H⟩ := H; cases e9
    refine r_alt2 hk9 H (nx := pw_nx E m_J0_toArray (d + 1) 52 5 _ _ Post) (pw_nx_z (fun b7 w6 H1 => ?_)) (fun e9 H => by subst e9; exact r_F (M := m_J0_toArray) (pc := 52) dJ0_toArray_52 ⟨"java/util/Iterator", "hasNext", "()Z"⟩ m_J15_hasNext k_J15_hasNext q2489 q863 19 _ rfl q861 (pw_fwm 0 rfl) (av := []) (dy := d) (pw_nyt (n := 0) (by decide +kernel) (by decide +kernel)) h10 rfl (pw_c4 (Nat.le_of_ble_eq_true rfl)) (Nat.le_refl _) H) (fun e9 H => by subst e9; exact r_F (M := m_J0_toArray) (pc := 52) dJ0_toArray_52 ⟨"java/util/Iterator", "hasNext", "()Z"⟩ m_J27_hasNext k_J27_hasNext q2489 q879 25 _ rfl q877 (pw_fwm 2 rfl) (av := []) (dy := d) (pw_nyt (n := 0) (by decide +kernel) (by decide +kernel)) h10 rfl (pw_c4 (Nat.le_of_ble_eq_true rfl)) (Nat.le_refl _) H)
    replace H := H1; clear H1
    refine r_if_eq (M := m_J0_toArray) (pc := 57) dJ0_toArray_57 68 (by decide) (fun hc => ?_) (fun hc => ?_)
    · replace H := f_it H hc
      refine r_aload_n (M := m_J0_toArray) (pc := 68) dJ0_toArray_68 1 rfl rfl ?_
      exact r_areturn (M := m_J0_toArray) (pc := 69) dJ0_toArray_69 rfl (by simp) H
    · replace H := f_if H hc
      refine r_aload_n (M := m_J0_toArray) (pc := 60) dJ0_toArray_60 1 rfl rfl ?_
      refine r_aload_n (M := m_J0_toArray) (pc := 61) dJ0_toArray_61 2 rfl rfl ?_
      refine r_S (M := m_J0_toArray) (pc := 62) dJ0_toArray_62 m_J0_finishToArray k_J0_finishToArray q2493 q2494 (av := [va_rf _, va_rf _]) (dy := d) n_J0_finishToArray rfl (pw_c4 (Nat.le_of_ble_eq_true rfl)) (Nat.le_refl _) (H.mono (pw_nx_r (fun o13 w12 H1 => ?_)))
      replace H := H1; clear H1
      refine r_goto (M := m_J0_toArray) (pc := 65) dJ0_toArray_65 69 (by decide) ?_
      exact r_areturn (M := m_J0_toArray) (pc := 69) dJ0_toArray_69 rfl (by simp) H
  · replace H := f_if H hc
    refine r_aload_n (M := m_J0_toArray) (pc := 21) dJ0_toArray_21 2 rfl rfl ?_
    obtain ⟨a16, us17, k19, M9, e9, h18, hk9, H⟩ := H; cases e9
    refine r_alt2 hk9 H (nx := pw_nx E m_J0_toArray (d + 1) 22 5 _ _ Post) (pw_nx_z (fun b15 w14 H1 => ?_)) (fun e9 H => by subst e9; exact r_F (M := m_J0_toArray) (pc := 22) dJ0_toArray_22 ⟨"java/util/Iterator", "hasNext", "()Z"⟩ m_J15_hasNext k_J15_hasNext q2489 q863 19 _ rfl q861 (pw_fwm 0 rfl) (av := []) (dy := d) (pw_nyt (n := 0) (by decide +kernel) (by decide +kernel)) h18 rfl (pw_c4 (Nat.le_of_ble_eq_true rfl)) (Nat.le_refl _) H) (fun e9 H => by subst e9; exact r_F (M := m_J0_toArray) (pc := 22) dJ0_toArray_22 ⟨"java/util/Iterator", "hasNext", "()Z"⟩ m_J27_hasNext k_J27_hasNext q2489 q879 25 _ rfl q877 (pw_fwm 2 rfl) (av := []) (dy := d) (pw_nyt (n := 0) (by decide +kernel) (by decide +kernel)) h18 rfl (pw_c4 (Nat.le_of_ble_eq_true rfl)) (Nat.le_refl _) H)
    replace H := H1; clear H1
    refine r_if_ne (M := m_J0_toArray) (pc := 27) dJ0_toArray_27 36 (by decide) (fun hc => ?_) (fun hc => ?_)
    · replace H := f_if H hc
      refine r_aload_n (M := m_J0_toArray) (pc := 36) dJ0_toArray_36 1 rfl rfl ?_
      refine r_iload_n (M := m_J0_toArray) (pc := 37) dJ0_toArray_37 3 rfl rfl ?_
      refine r_aload_n (M := m_J0_toArray) (pc := 38) dJ0_toArray_38 2 rfl rfl ?_
      obtain ⟨a22, us23, k25, M9, e9, h24, hk9, H⟩ := H; cases e9
      refine r_alt2 hk9 H (nx := pw_nx E m_J0_toArray (d + 1) 39 5 _ _ Post) (pw_nx_r (fun o21 w20 H1 => ?_)) (fun e9 H => by subst e9; exact r_F (M := m_J0_toArray) (pc := 39) dJ0_toArray_39 ⟨"java/util/Iterator", "next", "()Ljava/lang/Object;"⟩ m_J15_next k_J15_next q2492 q888 19 _ rfl q886 (pw_fwm 1 rfl) (av := []) (dy := d) (pw_nyt (n := 0) (by decide +kernel) (by decide +kernel)) h24 rfl (pw_c4 (Nat.le_of_ble_eq_true rfl)) (Nat.le_refl _) H) (fun e9 H => by subst e9; exact r_F (M := m_J0_toArray) (pc := 39) dJ0_toArray_39 ⟨"java/util/Iterator", "next", "()Ljava/lang/Object;"⟩ m_J28_next k_J28_next q2492 q916 25 _ rfl q914 (pw_fwm 3 rfl) (av := []) (dy := d) (pw_nyt (n := 0) (by decide +kernel) (by decide +kernel)) h24 rfl (pw_c4 (Nat.le_of_ble_eq_true rfl)) (Nat.le_refl _) H)
      replace H := H1; clear H1
      obtain ⟨a26, t27, Ct27, vs28, e9, h29, h29t, h296, h29b, h290, h29l, h29o, H⟩ := H; cases e9
      refine r_aastore (M := m_J0_toArray) (pc := 44) dJ0_toArray_44 t27 Ct27 h29t h296 h29 h29b h290 h29l h29o ?_
      refine r_iinc (M := m_J0_toArray) (pc := 45) dJ0_toArray_45 1 rfl rfl (Nat.le_of_ble_eq_true rfl) (pw_pre_rf rfl) ?_
      refine r_goto (M := m_J0_toArray) (pc := 48) dJ0_toArray_48 15 (by decide) ?_
      exact pw_weak (le_n (le_s (le_s (le_s le_0)))) H
    · replace H := f_it H hc
      refine r_aload_n (M := m_J0_toArray) (pc := 30) dJ0_toArray_30 1 rfl rfl ?_
      refine r_iload_n (M := m_J0_toArray) (pc := 31) dJ0_toArray_31 3 rfl rfl ?_
      refine r_S (M := m_J0_toArray) (pc := 32) dJ0_toArray_32 m_J10_copyOf_2 k_J10_copyOf_2 q2490 q783 (av := [va_rf _, .int _]) (dy := d) n_J10_copyOf_2 rfl (pw_c4 (Nat.le_of_ble_eq_true rfl)) (Nat.le_refl _) (H.mono (pw_nx_r (fun o32 w31 H1 => ?_)))
      replace H := H1; clear H1
      exact r_areturn (M := m_J0_toArray) (pc := 35) dJ0_toArray_35 rfl (by simp) H
theorem e_J0_toArray {E : pw_E} {d : Nat} {w : pw_W} {Post : pw_R → pw_W → Prop} (v0 : Option Nat) (H : pw_Wp E m_J0_toArray d 0 [some (va_rf v0), none, none, none] [] w Post) : pw_Cl E m_J0_toArray d [va_rf v0] w Post := pw_meth (by decide) rfl (pw_e1 (pw_cat_rf _) (pw_e0 (n := 3))) H
theorem s_J10_checkLength_0 {E : pw_E} {d : Nat} {w : pw_W} {Post : pw_R → pw_W → Prop} (v0 : Int32) (v1 : Int32) (H : (if v0 ≤ v1 then Post (.inl none) w else False)) : pw_Wp E m_J10_checkLength (d + 1) 0 [some (.int v0), some (.int v1)] [] w Post := by
  refine r_iload_n (M := m_J10_checkLength) (pc := 0) dJ10_checkLength_0 1 rfl rfl ?_
  refine r_iload_n (M := m_J10_checkLength) (pc := 1) dJ10_checkLength_1 0 rfl rfl ?_
  refine r_icmp_ge (M := m_J10_checkLength) (pc := 2) dJ10_checkLength_2 37 (by decide) (fun hc => ?_) (fun hc => ?_)
  · replace H := f_it H hc
    exact r_return (M := m_J10_checkLength) (pc := 37) dJ10_checkLength_37 rfl H
  · replace H := f_if H hc
    exact H.elim
theorem e_J10_checkLength {E : pw_E} {d : Nat} {w : pw_W} {Post : pw_R → pw_W → Prop} (v0 : Int32) (v1 : Int32) (H : pw_Wp E m_J10_checkLength d 0 [some (.int v0), some (.int v1)] [] w Post) : pw_Cl E m_J10_checkLength d [.int v0, .int v1] w Post := pw_meth (by decide) rfl (pw_e1 rfl (pw_e1 rfl (pw_e0 (n := 0)))) H
theorem s_J10_copyOf_0 {E : pw_E} {d : Nat} {w : pw_W} {Post : pw_R → pw_W → Prop} (v0 : Option Nat) (v1 : Int32) (H : f_len w v0 (fun x1 => (if v1 = x1 then f_clone w 1 .byte v0 (fun w13 => f_cast w13 (some w.2.1) "[B" (Post (.inl (some (va_rf (some w.2.1)))) w13)) else f_newa w 1 v1 (.int 0) (fun w6 => f_len w6 v0 (fun x7 => f_copy E w6 v0 0 (some w.2.1) 0 (if v1 < x7 then v1 else x7) (fun w12 => Post (.inl (some (va_rf (some w.2.1)))) w12)))))) : pw_Wp E m_J10_copyOf (d + 1) 0 [some (va_rf v0), some (.int v1), none] [] w Post := by
  refine r_iload_n (M := m_J10_copyOf) (pc := 0) dJ10_copyOf_0 1 rfl rfl ?_
  refine r_aload_n (M := m_J10_copyOf) (pc := 1) dJ10_copyOf_1 0 rfl rfl ?_
  obtain ⟨a2, t3, tyt3, vs4, e9, h5, h5t, H⟩ := H; cases e9
  refine r_alen (M := m_J10_copyOf) (pc := 2) dJ10_copyOf_2 t3 tyt3 h5t h5 ?_
  refine r_icmp_ne (M := m_J10_copyOf) (pc := 3) dJ10_copyOf_3 14 (by decide) (fun hc => ?_) (fun hc => ?_)
  · replace H := f_if H hc
    refine r_iload_n (M := m_J10_copyOf) (pc := 14) dJ10_copyOf_14 1 rfl rfl ?_
    obtain ⟨hn0, hnb, H⟩ := H
    refine r_newarray (M := m_J10_copyOf) (pc := 15) dJ10_copyOf_15 1 rfl (Nat.le_of_ble_eq_true rfl) q236 (by rintro ⟨C, h⟩; cases h) hn0 (pw_big hnb (by decide)) ?_
    refine r_astore_n (M := m_J10_copyOf) (pc := 17) dJ10_copyOf_17 2 rfl (Nat.le_of_ble_eq_true rfl) rfl ?_
    refine r_aload_n (M := m_J10_copyOf) (pc := 18) dJ10_copyOf_18 0 rfl rfl ?_
    refine r_iconst (M := m_J10_copyOf) (pc := 19) dJ10_copyOf_19 0 rfl ?_
    refine r_aload_n (M := m_J10_copyOf) (pc := 20) dJ10_copyOf_20 2 rfl rfl ?_
    refine r_iconst (M := m_J10_copyOf) (pc := 21) dJ10_copyOf_21 0 rfl ?_
    refine r_aload_n (M := m_J10_copyOf) (pc := 22) dJ10_copyOf_22 0 rfl rfl ?_
    obtain ⟨a8, t9, tyt9, vs10, e9, h11, h11t, H⟩ := H; cases e9
    refine r_alen (M := m_J10_copyOf) (pc := 23) dJ10_copyOf_23 t9 tyt9 h11t h11 ?_
    refine r_iload_n (M := m_J10_copyOf) (pc := 24) dJ10_copyOf_24 1 rfl rfl ?_
    refine r_min (M := m_J10_copyOf) (pc := 25) dJ10_copyOf_25 q405 q406 q149 q407 (Nat.succ_pos _) (pw_c4 (Nat.le_of_ble_eq_true rfl)) ?_
    refine r_copyF (M := m_J10_copyOf) (pc := 28) dJ10_copyOf_28 q408 q410 q409 q151 H (pw_c4 (Nat.le_of_ble_eq_true rfl)) (fun w12 H1 => ?_)
    replace H := H1; clear H1
    refine r_aload_n (M := m_J10_copyOf) (pc := 31) dJ10_copyOf_31 2 rfl rfl ?_
    exact r_areturn (M := m_J10_copyOf) (pc := 32) dJ10_copyOf_32 rfl (by simp) H
  · replace H := f_it H hc
    refine r_aload_n (M := m_J10_copyOf) (pc := 6) dJ10_copyOf_6 0 rfl rfl ?_
    obtain ⟨a9, vs14, e9, h9, g9, H⟩ := H; cases e9
    refine r_clone (M := m_J10_copyOf) (pc := 7) dJ10_copyOf_7 1 "[B" rfl (Nat.le_of_ble_eq_true rfl) (by decide) (by rintro C ⟨⟩) q398 q399 q400 q401 q402 q403 h9 g9 (Nat.succ_pos _) (pw_c4 (Nat.le_of_ble_eq_true rfl)) ?_
    obtain ⟨hk, H⟩ := H
    refine r_cast (M := m_J10_copyOf) (pc := 10) dJ10_copyOf_10 "[B" q404 hk ?_
    exact r_areturn (M := m_J10_copyOf) (pc := 13) dJ10_copyOf_13 rfl (by simp) H
theorem e_J10_copyOf {E : pw_E} {d : Nat} {w : pw_W} {Post : pw_R → pw_W → Prop} (v0 : Option Nat) (v1 : Int32) (H : pw_Wp E m_J10_copyOf d 0 [some (va_rf v0), some (.int v1), none] [] w Post) : pw_Cl E m_J10_copyOf d [va_rf v0, .int v1] w Post := pw_meth (by decide) rfl (pw_e1 (pw_cat_rf _) (pw_e1 rfl (pw_e0 (n := 1)))) H
theorem s_J10_copyOfRange_0 {E : pw_E} {d : Nat} {w : pw_W} {Post : pw_R → pw_W → Prop} (v0 : Option Nat) (v1 : Int32) (v2 : Int32) (H : (if v1 = 0 then f_len w v0 (fun x3 => (if v2 = x3 then f_clone w 1 .byte v0 (fun w8 => f_cast w8 (some w.2.1) "[B" (Post (.inl (some (va_rf (some w.2.1)))) w8)) else pw_Cl E m_J10_copyOfRangeByte d [va_rf v0, .int v1, .int v2] w (c_r (fun o11 w10 => Post (.inl (some (va_rf o11))) w10)))) else pw_Cl E m_J10_copyOfRangeByte d [va_rf v0, .int v1, .int v2] w (c_r (fun o2 w1 => Post (.inl (some (va_rf o2))) w1)))) : pw_Wp E m_J10_copyOfRange (d + 1) 0 [some (va_rf v0), some (.int v1), some (.int v2)] [] w Post := by
  refine r_iload_n (M := m_J10_copyOfRange) (pc := 0) dJ10_copyOfRange_0 1 rfl rfl ?_
  refine r_if_ne (M := m_J10_copyOfRange) (pc := 1) dJ10_copyOfRange_1 10 (by decide) (fun hc => ?_) (fun hc => ?_)
  · replace H := f_if H hc
    refine r_aload_n (M := m_J10_copyOfRange) (pc := 10) dJ10_copyOfRange_10 0 rfl rfl ?_
    refine r_iload_n (M := m_J10_copyOfRange) (pc := 11) dJ10_copyOfRange_11 1 rfl rfl ?_
    refine r_iload_n (M := m_J10_copyOfRange) (pc := 12) dJ10_copyOfRange_12 2 rfl rfl ?_
    refine r_S (M := m_J10_copyOfRange) (pc := 13) dJ10_copyOfRange_13 m_J10_copyOfRangeByte k_J10_copyOfRangeByte q487 q488 (av := [va_rf _, .int _, .int _]) (dy := d) n_J10_copyOfRangeByte rfl (pw_c4 (Nat.le_of_ble_eq_true rfl)) (Nat.le_refl _) (H.mono (pw_nx_r (fun o2 w1 H1 => ?_)))
    replace H := H1; clear H1
    exact r_areturn (M := m_J10_copyOfRange) (pc := 16) dJ10_copyOfRange_16 rfl (by simp) H
  · replace H := f_it H hc
    refine r_iload_n (M := m_J10_copyOfRange) (pc := 4) dJ10_copyOfRange_4 2 rfl rfl ?_
    refine r_aload_n (M := m_J10_copyOfRange) (pc := 5) dJ10_copyOfRange_5 0 rfl rfl ?_
    obtain ⟨a4, t5, tyt5, vs6, e9, h7, h7t, H⟩ := H; cases e9
    refine r_alen (M := m_J10_copyOfRange) (pc := 6) dJ10_copyOfRange_6 t5 tyt5 h7t h7 ?_
    refine r_icmp_eq (M := m_J10_copyOfRange) (pc := 7) dJ10_copyOfRange_7 17 (by decide) (fun hc => ?_) (fun hc => ?_)
    · replace H := f_it H hc
      refine r_aload_n (M := m_J10_copyOfRange) (pc := 17) dJ10_copyOfRange_17 0 rfl rfl ?_
      obtain ⟨a9, vs9, e9, h9, g9, H⟩ := H; cases e9
      refine r_clone (M := m_J10_copyOfRange) (pc := 18) dJ10_copyOfRange_18 1 "[B" rfl (Nat.le_of_ble_eq_true rfl) (by decide) (by rintro C ⟨⟩) q398 q399 q400 q401 q402 q403 h9 g9 (Nat.succ_pos _) (pw_c4 (Nat.le_of_ble_eq_true rfl)) ?_
      obtain ⟨hk, H⟩ := H
      refine r_cast (M := m_J10_copyOfRange) (pc := 21) dJ10_copyOfRange_21 "[B" q404 hk ?_
      exact r_areturn (M := m_J10_copyOfRange) (pc := 24) dJ10_copyOfRange_24 rfl (by simp) H
    · replace H := f_if H hc
      refine r_aload_n (M := m_J10_copyOfRange) (pc := 10) dJ10_copyOfRange_10 0 rfl rfl ?_
      refine r_iload_n (M := m_J10_copyOfRange) (pc := 11) dJ10_copyOfRange_11 1 rfl rfl ?_
      refine r_iload_n (M := m_J10_copyOfRange) (pc := 12) dJ10_copyOfRange_12 2 rfl rfl ?_
      refine r_S (M := m_J10_copyOfRange) (pc := 13) dJ10_copyOfRange_13 m_J10_copyOfRangeByte k_J10_copyOfRangeByte q487 q488 (av := [va_rf _, .int _, .int _]) (dy := d) n_J10_copyOfRangeByte rfl (pw_c4 (Nat.le_of_ble_eq_true rfl)) (Nat.le_refl _) (H.mono (pw_nx_r (fun o11 w10 H1 => ?_)))
      replace H := H1; clear H1
      exact r_areturn (M := m_J10_copyOfRange) (pc := 16) dJ10_copyOfRange_16 rfl (by simp) H
theorem e_J10_copyOfRange {E : pw_E} {d : Nat} {w : pw_W} {Post : pw_R → pw_W → Prop} (v0 : Option Nat) (v1 : Int32) (v2 : Int32) (H : pw_Wp E m_J10_copyOfRange d 0 [some (va_rf v0), some (.int v1), some (.int v2)] [] w Post) : pw_Cl E m_J10_copyOfRange d [va_rf v0, .int v1, .int v2] w Post := pw_meth (by decide) rfl (pw_e1 (pw_cat_rf _) (pw_e1 rfl (pw_e1 rfl (pw_e0 (n := 0))))) H
theorem s_J10_copyOfRangeByte_0 {E : pw_E} {d : Nat} {w : pw_W} {Post : pw_R → pw_W → Prop} (v0 : Option Nat) (v1 : Int32) (v2 : Int32) (H : pw_Cl E m_J10_checkLength d [.int v1, .int v2] w (c_v (fun w1 => f_newa w1 1 (v2 - v1) (.int 0) (fun w2 => f_len w2 v0 (fun x3 => f_copy E w2 v0 v1 (some w1.2.1) 0 (if (v2 - v1) < (x3 - v1) then (v2 - v1) else (x3 - v1)) (fun w8 => Post (.inl (some (va_rf (some w1.2.1)))) w8)))))) : pw_Wp E m_J10_copyOfRangeByte (d + 1) 0 [some (va_rf v0), some (.int v1), some (.int v2), none, none] [] w Post := by
  refine r_iload_n (M := m_J10_copyOfRangeByte) (pc := 0) dJ10_copyOfRangeByte_0 1 rfl rfl ?_
  refine r_iload_n (M := m_J10_copyOfRangeByte) (pc := 1) dJ10_copyOfRangeByte_1 2 rfl rfl ?_
  refine r_S (M := m_J10_copyOfRangeByte) (pc := 2) dJ10_copyOfRangeByte_2 m_J10_checkLength k_J10_checkLength q490 q491 (av := [.int _, .int _]) (dy := d) n_J10_checkLength rfl (pw_c4 (Nat.le_of_ble_eq_true rfl)) (Nat.le_refl _) (H.mono (pw_nx_v (fun w1 H1 => ?_)))
  replace H := H1; clear H1
  refine r_iload_n (M := m_J10_copyOfRangeByte) (pc := 5) dJ10_copyOfRangeByte_5 2 rfl rfl ?_
  refine r_iload_n (M := m_J10_copyOfRangeByte) (pc := 6) dJ10_copyOfRangeByte_6 1 rfl rfl ?_
  refine r_isub (M := m_J10_copyOfRangeByte) (pc := 7) dJ10_copyOfRangeByte_7 ?_
  refine r_istore_n (M := m_J10_copyOfRangeByte) (pc := 8) dJ10_copyOfRangeByte_8 3 rfl (Nat.le_of_ble_eq_true rfl) rfl ?_
  refine r_iload_n (M := m_J10_copyOfRangeByte) (pc := 9) dJ10_copyOfRangeByte_9 3 rfl rfl ?_
  obtain ⟨hn0, hnb, H⟩ := H
  refine r_newarray (M := m_J10_copyOfRangeByte) (pc := 10) dJ10_copyOfRangeByte_10 1 rfl (Nat.le_of_ble_eq_true rfl) q236 (by rintro ⟨C, h⟩; cases h) hn0 (pw_big hnb (by decide)) ?_
  refine r_astore (M := m_J10_copyOfRangeByte) (pc := 12) dJ10_copyOfRangeByte_12 (Nat.le_of_ble_eq_true rfl) rfl ?_
  refine r_aload_n (M := m_J10_copyOfRangeByte) (pc := 14) dJ10_copyOfRangeByte_14 0 rfl rfl ?_
  refine r_iload_n (M := m_J10_copyOfRangeByte) (pc := 15) dJ10_copyOfRangeByte_15 1 rfl rfl ?_
  refine r_aload (M := m_J10_copyOfRangeByte) (pc := 16) dJ10_copyOfRangeByte_16 rfl ?_
  refine r_iconst (M := m_J10_copyOfRangeByte) (pc := 18) dJ10_copyOfRangeByte_18 0 rfl ?_
  refine r_aload_n (M := m_J10_copyOfRangeByte) (pc := 19) dJ10_copyOfRangeByte_19 0 rfl rfl ?_
  obtain ⟨a4, t5, tyt5, vs6, e9, h7, h7t, H⟩ := H; cases e9
  refine r_alen (M := m_J10_copyOfRangeByte) (pc := 20) dJ10_copyOfRangeByte_20 t5 tyt5 h7t h7 ?_
  refine r_iload_n (M := m_J10_copyOfRangeByte) (pc := 21) dJ10_copyOfRangeByte_21 1 rfl rfl ?_
  refine r_isub (M := m_J10_copyOfRangeByte) (pc := 22) dJ10_copyOfRangeByte_22 ?_
  refine r_iload_n (M := m_J10_copyOfRangeByte) (pc := 23) dJ10_copyOfRangeByte_23 3 rfl rfl ?_
  refine r_min (M := m_J10_copyOfRangeByte) (pc := 24) dJ10_copyOfRangeByte_24 q405 q406 q149 q407 (Nat.succ_pos _) (pw_c4 (Nat.le_of_ble_eq_true rfl)) ?_
  refine r_copyF (M := m_J10_copyOfRangeByte) (pc := 27) dJ10_copyOfRangeByte_27 q408 q410 q409 q151 H (pw_c4 (Nat.le_of_ble_eq_true rfl)) (fun w8 H1 => ?_)
  replace H := H1; clear H1
  refine r_aload (M := m_J10_copyOfRangeByte) (pc := 30) dJ10_copyOfRangeByte_30 rfl ?_
  exact r_areturn (M := m_J10_copyOfRangeByte) (pc := 32) dJ10_copyOfRangeByte_32 rfl (by simp) H
theorem e_J10_copyOfRangeByte {E : pw_E} {d : Nat} {w : pw_W} {Post : pw_R → pw_W → Prop} (v0 : Option Nat) (v1 : Int32) (v2 : Int32) (H : pw_Wp E m_J10_copyOfRangeByte d 0 [some (va_rf v0), some (.int v1), some (.int v2), none, none] [] w Post) : pw_Cl E m_J10_copyOfRangeByte d [va_rf v0, .int v1, .int v2] w Post := pw_meth (by decide) rfl (pw_e1 (pw_cat_rf _) (pw_e1 rfl (pw_e1 rfl (pw_e0 (n := 2))))) H
theorem s_J10_copyOf_2_0 {E : pw_E} {d : Nat} {w : pw_W} {Post : pw_R → pw_W → Prop} (v0 : Option Nat) (v1 : Int32) (H : (∃ (a9 : Nat) (vs9 : List Value), v0 = some a9 ∧ w.1 a9 = some (1003, vs9) ∧ f_mi E (fun mi1 => pw_Cl E m_J10_copyOf_3 d [va_rf v0, .int v1, va_rf (some mi1)] w (c_r (fun o3 w2 => Post (.inl (some (va_rf o3))) w2))))) : pw_Wp E m_J10_copyOf_2 (d + 1) 0 [some (va_rf v0), some (.int v1)] [] w Post := by
  refine r_aload_n (M := m_J10_copyOf_2) (pc := 0) dJ10_copyOf_2_0 0 rfl rfl ?_
  refine r_iload_n (M := m_J10_copyOf_2) (pc := 1) dJ10_copyOf_2_1 1 rfl rfl ?_
  refine r_aload_n (M := m_J10_copyOf_2) (pc := 2) dJ10_copyOf_2_2 0 rfl rfl ?_
  obtain ⟨a9, vs9, e9, h9, mi1, hmi1, H⟩ := H; cases e9
  refine r_getC (M := m_J10_copyOf_2) (pc := 3) dJ10_copyOf_2_3 q785 q3258 q3257 q786 q821 hmi1 h9 (Nat.succ_pos _) (pw_c4 (Nat.le_of_ble_eq_true rfl)) ?_
  refine r_S (M := m_J10_copyOf_2) (pc := 6) dJ10_copyOf_2_6 m_J10_copyOf_3 k_J10_copyOf_3 q822 q823 (av := [va_rf _, .int _, va_rf _]) (dy := d) n_J10_copyOf_3 rfl (pw_c4 (Nat.le_of_ble_eq_true rfl)) (Nat.le_refl _) (H.mono (pw_nx_r (fun o3 w2 H1 => ?_)))
  replace H := H1; clear H1
  exact r_areturn (M := m_J10_copyOf_2) (pc := 9) dJ10_copyOf_2_9 rfl (by simp) H
theorem e_J10_copyOf_2 {E : pw_E} {d : Nat} {w : pw_W} {Post : pw_R → pw_W → Prop} (v0 : Option Nat) (v1 : Int32) (H : pw_Wp E m_J10_copyOf_2 d 0 [some (va_rf v0), some (.int v1)] [] w Post) : pw_Cl E m_J10_copyOf_2 d [va_rf v0, .int v1] w Post := pw_meth (by decide) rfl (pw_e1 (pw_cat_rf _) (pw_e1 rfl (pw_e0 (n := 0)))) H
theorem s_J10_copyOf_3_0 {E : pw_E} {d : Nat} {w : pw_W} {Post : pw_R → pw_W → Prop} (v0 : Option Nat) (v1 : Int32) (v2 : Option Nat) (H : f_mi E (fun mi1 => (if v2 = (some mi1) then f_newa w 3 v1 (va_rf none) (fun w2 => f_len w2 v0 (fun x3 => f_copy E w2 v0 0 (some w.2.1) 0 (if v1 < x3 then v1 else x3) (fun w8 => Post (.inl (some (va_rf (some w.2.1)))) w8))) else False))) : pw_Wp E m_J10_copyOf_3 (d + 1) 0 [some (va_rf v0), some (.int v1), some (va_rf v2), none] [] w Post := by
  refine r_aload_n (M := m_J10_copyOf_3) (pc := 0) dJ10_copyOf_3_0 2 rfl rfl ?_
  obtain ⟨mi1, hmi1, H⟩ := H
  refine r_ldcM (M := m_J10_copyOf_3) (pc := 1) dJ10_copyOf_3_1 q825 hmi1 ?_
  refine r_acmp_ne (M := m_J10_copyOf_3) (pc := 3) dJ10_copyOf_3_3 13 (by decide) (fun hc => ?_) (fun hc => ?_)
  · replace H := f_if H hc
    refine r_aload_n (M := m_J10_copyOf_3) (pc := 13) dJ10_copyOf_3_13 2 rfl rfl ?_
    exact H.elim
  · replace H := f_it H hc
    refine r_iload_n (M := m_J10_copyOf_3) (pc := 6) dJ10_copyOf_3_6 1 rfl rfl ?_
    obtain ⟨hn0, hnb, H⟩ := H
    refine r_anewarray (M := m_J10_copyOf_3) (pc := 7) dJ10_copyOf_3_7 3 "java/lang/Object" rfl (Nat.le_of_ble_eq_true rfl) (by simp) q826 hn0 (by omega) ?_
    refine r_goto (M := m_J10_copyOf_3) (pc := 10) dJ10_copyOf_3_10 24 (by decide) ?_
    refine r_astore_n (M := m_J10_copyOf_3) (pc := 24) dJ10_copyOf_3_24 3 rfl (Nat.le_of_ble_eq_true rfl) (pw_pre_rf rfl) ?_
    refine r_aload_n (M := m_J10_copyOf_3) (pc := 25) dJ10_copyOf_3_25 0 rfl rfl ?_
    refine r_iconst (M := m_J10_copyOf_3) (pc := 26) dJ10_copyOf_3_26 0 rfl ?_
    refine r_aload_n (M := m_J10_copyOf_3) (pc := 27) dJ10_copyOf_3_27 3 rfl rfl ?_
    refine r_iconst (M := m_J10_copyOf_3) (pc := 28) dJ10_copyOf_3_28 0 rfl ?_
    refine r_aload_n (M := m_J10_copyOf_3) (pc := 29) dJ10_copyOf_3_29 0 rfl rfl ?_
    obtain ⟨a4, t5, tyt5, vs6, e9, h7, h7t, H⟩ := H; cases e9
    refine r_alen (M := m_J10_copyOf_3) (pc := 30) dJ10_copyOf_3_30 t5 tyt5 h7t h7 ?_
    refine r_iload_n (M := m_J10_copyOf_3) (pc := 31) dJ10_copyOf_3_31 1 rfl rfl ?_
    refine r_min (M := m_J10_copyOf_3) (pc := 32) dJ10_copyOf_3_32 q405 q406 q149 q407 (Nat.succ_pos _) (pw_c4 (Nat.le_of_ble_eq_true rfl)) ?_
    refine r_copyF (M := m_J10_copyOf_3) (pc := 35) dJ10_copyOf_3_35 q408 q410 q409 q151 H (pw_c4 (Nat.le_of_ble_eq_true rfl)) (fun w8 H1 => ?_)
    replace H := H1; clear H1
    refine r_aload_n (M := m_J10_copyOf_3) (pc := 38) dJ10_copyOf_3_38 3 rfl rfl ?_
    exact r_areturn (M := m_J10_copyOf_3) (pc := 39) dJ10_copyOf_3_39 rfl (by simp) H
theorem e_J10_copyOf_3 {E : pw_E} {d : Nat} {w : pw_W} {Post : pw_R → pw_W → Prop} (v0 : Option Nat) (v1 : Int32) (v2 : Option Nat) (H : pw_Wp E m_J10_copyOf_3 d 0 [some (va_rf v0), some (.int v1), some (va_rf v2), none] [] w Post) : pw_Cl E m_J10_copyOf_3 d [va_rf v0, .int v1, va_rf v2] w Post := pw_meth (by decide) rfl (pw_e1 (pw_cat_rf _) (pw_e1 rfl (pw_e1 (pw_cat_rf _) (pw_e0 (n := 1))))) H
theorem s_J10_copyOf_4_0 {E : pw_E} {d : Nat} {w : pw_W} {Post : pw_R → pw_W → Prop} (v0 : Option Nat) (v1 : Int32) (H : f_len w v0 (fun x1 => (if v1 = x1 then f_clone w 0 .int v0 (fun w13 => f_cast w13 (some w.2.1) "[I" (Post (.inl (some (va_rf (some w.2.1)))) w13)) else f_newa w 0 v1 (.int 0) (fun w6 => f_len w6 v0 (fun x7 => f_copy E w6 v0 0 (some w.2.1) 0 (if v1 < x7 then v1 else x7) (fun w12 => Post (.inl (some (va_rf (some w.2.1)))) w12)))))) : pw_Wp E m_J10_copyOf_4 (d + 1) 0 [some (va_rf v0), some (.int v1), none] [] w Post := by
  refine r_iload_n (M := m_J10_copyOf_4) (pc := 0) dJ10_copyOf_4_0 1 rfl rfl ?_
  refine r_aload_n (M := m_J10_copyOf_4) (pc := 1) dJ10_copyOf_4_1 0 rfl rfl ?_
  obtain ⟨a2, t3, tyt3, vs4, e9, h5, h5t, H⟩ := H; cases e9
  refine r_alen (M := m_J10_copyOf_4) (pc := 2) dJ10_copyOf_4_2 t3 tyt3 h5t h5 ?_
  refine r_icmp_ne (M := m_J10_copyOf_4) (pc := 3) dJ10_copyOf_4_3 14 (by decide) (fun hc => ?_) (fun hc => ?_)
  · replace H := f_if H hc
    refine r_iload_n (M := m_J10_copyOf_4) (pc := 14) dJ10_copyOf_4_14 1 rfl rfl ?_
    obtain ⟨hn0, hnb, H⟩ := H
    refine r_newarray (M := m_J10_copyOf_4) (pc := 15) dJ10_copyOf_4_15 0 rfl (Nat.le_of_ble_eq_true rfl) q1009 (by rintro ⟨C, h⟩; cases h) hn0 (pw_big hnb (by decide)) ?_
    refine r_astore_n (M := m_J10_copyOf_4) (pc := 17) dJ10_copyOf_4_17 2 rfl (Nat.le_of_ble_eq_true rfl) rfl ?_
    refine r_aload_n (M := m_J10_copyOf_4) (pc := 18) dJ10_copyOf_4_18 0 rfl rfl ?_
    refine r_iconst (M := m_J10_copyOf_4) (pc := 19) dJ10_copyOf_4_19 0 rfl ?_
    refine r_aload_n (M := m_J10_copyOf_4) (pc := 20) dJ10_copyOf_4_20 2 rfl rfl ?_
    refine r_iconst (M := m_J10_copyOf_4) (pc := 21) dJ10_copyOf_4_21 0 rfl ?_
    refine r_aload_n (M := m_J10_copyOf_4) (pc := 22) dJ10_copyOf_4_22 0 rfl rfl ?_
    obtain ⟨a8, t9, tyt9, vs10, e9, h11, h11t, H⟩ := H; cases e9
    refine r_alen (M := m_J10_copyOf_4) (pc := 23) dJ10_copyOf_4_23 t9 tyt9 h11t h11 ?_
    refine r_iload_n (M := m_J10_copyOf_4) (pc := 24) dJ10_copyOf_4_24 1 rfl rfl ?_
    refine r_min (M := m_J10_copyOf_4) (pc := 25) dJ10_copyOf_4_25 q405 q406 q149 q407 (Nat.succ_pos _) (pw_c4 (Nat.le_of_ble_eq_true rfl)) ?_
    refine r_copyF (M := m_J10_copyOf_4) (pc := 28) dJ10_copyOf_4_28 q408 q410 q409 q151 H (pw_c4 (Nat.le_of_ble_eq_true rfl)) (fun w12 H1 => ?_)
    replace H := H1; clear H1
    refine r_aload_n (M := m_J10_copyOf_4) (pc := 31) dJ10_copyOf_4_31 2 rfl rfl ?_
    exact r_areturn (M := m_J10_copyOf_4) (pc := 32) dJ10_copyOf_4_32 rfl (by simp) H
  · replace H := f_it H hc
    refine r_aload_n (M := m_J10_copyOf_4) (pc := 6) dJ10_copyOf_4_6 0 rfl rfl ?_
    obtain ⟨a9, vs14, e9, h9, g9, H⟩ := H; cases e9
    refine r_clone (M := m_J10_copyOf_4) (pc := 7) dJ10_copyOf_4_7 0 "[I" rfl (Nat.le_of_ble_eq_true rfl) (by decide) (by rintro C ⟨⟩) q955 q956 q400 q401 q957 q958 h9 g9 (Nat.succ_pos _) (pw_c4 (Nat.le_of_ble_eq_true rfl)) ?_
    obtain ⟨hk, H⟩ := H
    refine r_cast (M := m_J10_copyOf_4) (pc := 10) dJ10_copyOf_4_10 "[I" q959 hk ?_
    exact r_areturn (M := m_J10_copyOf_4) (pc := 13) dJ10_copyOf_4_13 rfl (by simp) H
theorem e_J10_copyOf_4 {E : pw_E} {d : Nat} {w : pw_W} {Post : pw_R → pw_W → Prop} (v0 : Option Nat) (v1 : Int32) (H : pw_Wp E m_J10_copyOf_4 d 0 [some (va_rf v0), some (.int v1), none] [] w Post) : pw_Cl E m_J10_copyOf_4 d [va_rf v0, .int v1] w Post := pw_meth (by decide) rfl (pw_e1 (pw_cat_rf _) (pw_e1 rfl (pw_e0 (n := 1)))) H
theorem s_J11_canEncode_0 {E : pw_E} {d : Nat} {w : pw_W} {Post : pw_R → pw_W → Prop} (v0 : Int32) (H : (if 255 < v0 then Post (.inl (some (.int 0))) w else Post (.inl (some (.int 1))) w)) : pw_Wp E m_J11_canEncode (d + 1) 0 [some (.int v0)] [] w Post := by
  refine r_iload_n (M := m_J11_canEncode) (pc := 0) dJ11_canEncode_0 0 rfl rfl ?_
  refine r_sipush (M := m_J11_canEncode) (pc := 1) dJ11_canEncode_1 255 rfl ?_
  refine r_icmp_gt (M := m_J11_canEncode) (pc := 4) dJ11_canEncode_4 11 (by decide) (fun hc => ?_) (fun hc => ?_)
  · replace H := f_it H hc
    refine r_iconst (M := m_J11_canEncode) (pc := 11) dJ11_canEncode_11 0 rfl ?_
    exact r_zreturn (M := m_J11_canEncode) (pc := 12) dJ11_canEncode_12 rfl rfl H
  · replace H := f_if H hc
    refine r_iconst (M := m_J11_canEncode) (pc := 7) dJ11_canEncode_7 1 rfl ?_
    refine r_goto (M := m_J11_canEncode) (pc := 8) dJ11_canEncode_8 12 (by decide) ?_
    exact r_zreturn (M := m_J11_canEncode) (pc := 12) dJ11_canEncode_12 rfl rfl H
theorem e_J11_canEncode {E : pw_E} {d : Nat} {w : pw_W} {Post : pw_R → pw_W → Prop} (v0 : Int32) (H : pw_Wp E m_J11_canEncode d 0 [some (.int v0)] [] w Post) : pw_Cl E m_J11_canEncode d [.int v0] w Post := pw_meth (by decide) rfl (pw_e1 rfl (pw_e0 (n := 0))) H
theorem s_J11_charAt_0 {E : pw_E} {d : Nat} {w : pw_W} {Post : pw_R → pw_W → Prop} (v0 : Option Nat) (v1 : Int32) (H : f_len w v0 (fun x1 => pw_Cl E m_J6_checkIndex d [.int v1, .int x1] w (c_v (fun w6 => f_aldb w6 v0 v1 (fun x7 => (narrow .char (.int (((x7 &&& 255).toUInt32 % 65536).toInt32)) = .int (((x7 &&& 255).toUInt32 % 65536).toInt32) ∧ Post (.inl (some (.int (((x7 &&& 255).toUInt32 % 65536).toInt32)))) w6)))))) : pw_Wp E m_J11_charAt (d + 1) 0 [some (va_rf v0), some (.int v1)] [] w Post := by
  refine r_iload_n (M := m_J11_charAt) (pc := 0) dJ11_charAt_0 1 rfl rfl ?_
  refine r_aload_n (M := m_J11_charAt) (pc := 1) dJ11_charAt_1 0 rfl rfl ?_
  obtain ⟨a2, t3, tyt3, vs4, e9, h5, h5t, H⟩ := H; cases e9
  refine r_alen (M := m_J11_charAt) (pc := 2) dJ11_charAt_2 t3 tyt3 h5t h5 ?_
  refine r_S (M := m_J11_charAt) (pc := 3) dJ11_charAt_3 m_J6_checkIndex k_J6_checkIndex q1925 q459 (av := [.int _, .int _]) (dy := d) n_J6_checkIndex rfl (pw_c4 (Nat.le_of_ble_eq_true rfl)) (Nat.le_refl _) (H.mono (pw_nx_v (fun w6 H1 => ?_)))
  replace H := H1; clear H1
  refine r_aload_n (M := m_J11_charAt) (pc := 6) dJ11_charAt_6 0 rfl rfl ?_
  refine r_iload_n (M := m_J11_charAt) (pc := 7) dJ11_charAt_7 1 rfl rfl ?_
  obtain ⟨a8, vs10, x7, e9, h11, h110, h11v, H⟩ := H; cases e9
  refine r_baload (M := m_J11_charAt) (pc := 8) dJ11_charAt_8 h11 h110 h11v ?_
  refine r_sipush (M := m_J11_charAt) (pc := 9) dJ11_charAt_9 255 rfl ?_
  refine r_iand (M := m_J11_charAt) (pc := 12) dJ11_charAt_12 ?_
  refine r_i2c (M := m_J11_charAt) (pc := 13) dJ11_charAt_13 ?_
  exact r_zreturn (M := m_J11_charAt) (pc := 14) dJ11_charAt_14 rfl H.1 H.2
theorem e_J11_charAt {E : pw_E} {d : Nat} {w : pw_W} {Post : pw_R → pw_W → Prop} (v0 : Option Nat) (v1 : Int32) (H : pw_Wp E m_J11_charAt d 0 [some (va_rf v0), some (.int v1)] [] w Post) : pw_Cl E m_J11_charAt d [va_rf v0, .int v1] w Post := pw_meth (by decide) rfl (pw_e1 (pw_cat_rf _) (pw_e1 rfl (pw_e0 (n := 0)))) H
theorem s_J11_compareTo_0 {E : pw_E} {d : Nat} {w : pw_W} {Post : pw_R → pw_W → Prop} (v0 : Option Nat) (v1 : Option Nat) (H : f_len w v0 (fun x1 => f_len w v1 (fun x6 => pw_Cl E m_J11_compareTo_2 d [va_rf v0, va_rf v1, .int x1, .int x6] w (c_i (fun x12 w11 => Post (.inl (some (.int x12))) w11))))) : pw_Wp E m_J11_compareTo (d + 1) 0 [some (va_rf v0), some (va_rf v1), none, none] [] w Post := by
  refine r_aload_n (M := m_J11_compareTo) (pc := 0) dJ11_compareTo_0 0 rfl rfl ?_
  obtain ⟨a2, t3, tyt3, vs4, e9, h5, h5t, H⟩ := H; cases e9
  refine r_alen (M := m_J11_compareTo) (pc := 1) dJ11_compareTo_1 t3 tyt3 h5t h5 ?_
  refine r_istore_n (M := m_J11_compareTo) (pc := 2) dJ11_compareTo_2 2 rfl (Nat.le_of_ble_eq_true rfl) (pw_pre_rf rfl) ?_
  refine r_aload_n (M := m_J11_compareTo) (pc := 3) dJ11_compareTo_3 1 rfl rfl ?_
  obtain ⟨a7, t8, tyt8, vs9, e9, h10, h10t, H⟩ := H; cases e9
  refine r_alen (M := m_J11_compareTo) (pc := 4) dJ11_compareTo_4 t8 tyt8 h10t h10 ?_
  refine r_istore_n (M := m_J11_compareTo) (pc := 5) dJ11_compareTo_5 3 rfl (Nat.le_of_ble_eq_true rfl) rfl ?_
  refine r_aload_n (M := m_J11_compareTo) (pc := 6) dJ11_compareTo_6 0 rfl rfl ?_
  refine r_aload_n (M := m_J11_compareTo) (pc := 7) dJ11_compareTo_7 1 rfl rfl ?_
  refine r_iload_n (M := m_J11_compareTo) (pc := 8) dJ11_compareTo_8 2 rfl rfl ?_
  refine r_iload_n (M := m_J11_compareTo) (pc := 9) dJ11_compareTo_9 3 rfl rfl ?_
  refine r_S (M := m_J11_compareTo) (pc := 10) dJ11_compareTo_10 m_J11_compareTo_2 k_J11_compareTo_2 q1471 q1472 (av := [va_rf _, va_rf _, .int _, .int _]) (dy := d) n_J11_compareTo_2 rfl (pw_c4 (Nat.le_of_ble_eq_true rfl)) (Nat.le_refl _) (H.mono (pw_nx_i (fun x12 w11 H1 => ?_)))
  replace H := H1; clear H1
  exact r_ireturn (M := m_J11_compareTo) (pc := 13) dJ11_compareTo_13 rfl H
theorem e_J11_compareTo {E : pw_E} {d : Nat} {w : pw_W} {Post : pw_R → pw_W → Prop} (v0 : Option Nat) (v1 : Option Nat) (H : pw_Wp E m_J11_compareTo d 0 [some (va_rf v0), some (va_rf v1), none, none] [] w Post) : pw_Cl E m_J11_compareTo d [va_rf v0, va_rf v1] w Post := pw_meth (by decide) rfl (pw_e1 (pw_cat_rf _) (pw_e1 (pw_cat_rf _) (pw_e0 (n := 2)))) H
theorem s_J11_compareToUTF16_0 {E : pw_E} {d : Nat} {w : pw_W} {Post : pw_R → pw_W → Prop} (v0 : Option Nat) (v1 : Option Nat) (H : pw_Cl E m_J11_length d [va_rf v0] w (c_i (fun x2 w1 => pw_Cl E m_J7_length d [va_rf v1] w1 (c_i (fun x4 w3 => pw_Cl E m_J11_compareToUTF16Values d [va_rf v0, va_rf v1, .int x2, .int x4] w3 (c_i (fun x6 w5 => Post (.inl (some (.int x6))) w5))))))) : pw_Wp E m_J11_compareToUTF16 (d + 1) 0 [some (va_rf v0), some (va_rf v1), none, none] [] w Post := by
  refine r_aload_n (M := m_J11_compareToUTF16) (pc := 0) dJ11_compareToUTF16_0 0 rfl rfl ?_
  refine r_S (M := m_J11_compareToUTF16) (pc := 1) dJ11_compareToUTF16_1 m_J11_length k_J11_length q1592 q1593 (av := [va_rf _]) (dy := d) n_J11_length rfl (pw_c4 (Nat.le_of_ble_eq_true rfl)) (Nat.le_refl _) (H.mono (pw_nx_i (fun x2 w1 H1 => ?_)))
  replace H := H1; clear H1
  refine r_istore_n (M := m_J11_compareToUTF16) (pc := 4) dJ11_compareToUTF16_4 2 rfl (Nat.le_of_ble_eq_true rfl) (pw_pre_rf rfl) ?_
  refine r_aload_n (M := m_J11_compareToUTF16) (pc := 5) dJ11_compareToUTF16_5 1 rfl rfl ?_
  refine r_S (M := m_J11_compareToUTF16) (pc := 6) dJ11_compareToUTF16_6 m_J7_length k_J7_length q1595 q433 (av := [va_rf _]) (dy := d) n_J7_length rfl (pw_c4 (Nat.le_of_ble_eq_true rfl)) (Nat.le_refl _) (H.mono (pw_nx_i (fun x4 w3 H1 => ?_)))
  replace H := H1; clear H1
  refine r_istore_n (M := m_J11_compareToUTF16) (pc := 9) dJ11_compareToUTF16_9 3 rfl (Nat.le_of_ble_eq_true rfl) rfl ?_
  refine r_aload_n (M := m_J11_compareToUTF16) (pc := 10) dJ11_compareToUTF16_10 0 rfl rfl ?_
  refine r_aload_n (M := m_J11_compareToUTF16) (pc := 11) dJ11_compareToUTF16_11 1 rfl rfl ?_
  refine r_iload_n (M := m_J11_compareToUTF16) (pc := 12) dJ11_compareToUTF16_12 2 rfl rfl ?_
  refine r_iload_n (M := m_J11_compareToUTF16) (pc := 13) dJ11_compareToUTF16_13 3 rfl rfl ?_
  refine r_S (M := m_J11_compareToUTF16) (pc := 14) dJ11_compareToUTF16_14 m_J11_compareToUTF16Values k_J11_compareToUTF16Values q1596 q1597 (av := [va_rf _, va_rf _, .int _, .int _]) (dy := d) n_J11_compareToUTF16Values rfl (pw_c4 (Nat.le_of_ble_eq_true rfl)) (Nat.le_refl _) (H.mono (pw_nx_i (fun x6 w5 H1 => ?_)))
  replace H := H1; clear H1
  exact r_ireturn (M := m_J11_compareToUTF16) (pc := 17) dJ11_compareToUTF16_17 rfl H
theorem e_J11_compareToUTF16 {E : pw_E} {d : Nat} {w : pw_W} {Post : pw_R → pw_W → Prop} (v0 : Option Nat) (v1 : Option Nat) (H : pw_Wp E m_J11_compareToUTF16 d 0 [some (va_rf v0), some (va_rf v1), none, none] [] w Post) : pw_Cl E m_J11_compareToUTF16 d [va_rf v0, va_rf v1] w Post := pw_meth (by decide) rfl (pw_e1 (pw_cat_rf _) (pw_e1 (pw_cat_rf _) (pw_e0 (n := 2)))) H
theorem s_J11_compareToUTF16Values_0 {E : pw_E} {d : Nat} {w : pw_W} {Post : pw_R → pw_W → Prop} (v0 : Option Nat) (v1 : Option Nat) (v2 : Int32) (v3 : Int32) (H : pw_Wp E m_J11_compareToUTF16Values (d + 1) 10 [some (va_rf v0), some (va_rf v1), some (.int v2), some (.int v3), some (.int (if v3 < v2 then v3 else v2)), some (.int 0), none, none] [] w Post) : pw_Wp E m_J11_compareToUTF16Values (d + 1) 0 [some (va_rf v0), some (va_rf v1), some (.int v2), some (.int v3), none, none, none, none] [] w Post := by
  refine r_iload_n (M := m_J11_compareToUTF16Values) (pc := 0) dJ11_compareToUTF16Values_0 2 rfl rfl ?_
  refine r_iload_n (M := m_J11_compareToUTF16Values) (pc := 1) dJ11_compareToUTF16Values_1 3 rfl rfl ?_
  refine r_min (M := m_J11_compareToUTF16Values) (pc := 2) dJ11_compareToUTF16Values_2 q1474 q406 q149 q407 (Nat.succ_pos _) (pw_c4 (Nat.le_of_ble_eq_true rfl)) ?_
  refine r_istore (M := m_J11_compareToUTF16Values) (pc := 5) dJ11_compareToUTF16Values_5 (Nat.le_of_ble_eq_true rfl) rfl ?_
  refine r_iconst (M := m_J11_compareToUTF16Values) (pc := 7) dJ11_compareToUTF16Values_7 0 rfl ?_
  refine r_istore (M := m_J11_compareToUTF16Values) (pc := 8) dJ11_compareToUTF16Values_8 (Nat.le_of_ble_eq_true rfl) rfl ?_
  exact pw_weak (le_s (le_s (le_s (le_s (le_s (le_s (le_n (le_n le_0)))))))) H
theorem s_J11_compareToUTF16Values_10 {E : pw_E} {d : Nat} {w : pw_W} {Post : pw_R → pw_W → Prop} (v0 : Option Nat) (v1 : Option Nat) (v2 : Int32) (v3 : Int32) (v4 : Int32) (v5 : Int32) (H : (if v4 ≤ v5 then Post (.inl (some (.int (v2 - v3)))) w else pw_Cl E m_J11_getChar d [va_rf v0, .int v5] w (c_i (fun x2 w1 => pw_Cl E m_J7_getChar d [va_rf v1, .int v5] w1 (c_i (fun x4 w3 => (if x2 = x4 then pw_Wp E m_J11_compareToUTF16Values (d + 1) 10 [some (va_rf v0), some (va_rf v1), some (.int v2), some (.int v3), some (.int v4), some (.int (v5 + 1)), none, none] [] w3 Post else Post (.inl (some (.int (x2 - x4)))) w3))))))) : pw_Wp E m_J11_compareToUTF16Values (d + 1) 10 [some (va_rf v0), some (va_rf v1), some (.int v2), some (.int v3), some (.int v4), some (.int v5), none, none] [] w Post := by
  refine r_iload (M := m_J11_compareToUTF16Values) (pc := 10) dJ11_compareToUTF16Values_10 rfl ?_
  refine r_iload (M := m_J11_compareToUTF16Values) (pc := 12) dJ11_compareToUTF16Values_12 rfl ?_
  refine r_icmp_ge (M := m_J11_compareToUTF16Values) (pc := 14) dJ11_compareToUTF16Values_14 52 (by decide) (fun hc => ?_) (fun hc => ?_)
  · replace H := f_it H hc
    refine r_iload_n (M := m_J11_compareToUTF16Values) (pc := 52) dJ11_compareToUTF16Values_52 2 rfl rfl ?_
    refine r_iload_n (M := m_J11_compareToUTF16Values) (pc := 53) dJ11_compareToUTF16Values_53 3 rfl rfl ?_
    refine r_isub (M := m_J11_compareToUTF16Values) (pc := 54) dJ11_compareToUTF16Values_54 ?_
    exact r_ireturn (M := m_J11_compareToUTF16Values) (pc := 55) dJ11_compareToUTF16Values_55 rfl H
  · replace H := f_if H hc
    refine r_aload_n (M := m_J11_compareToUTF16Values) (pc := 17) dJ11_compareToUTF16Values_17 0 rfl rfl ?_
    refine r_iload (M := m_J11_compareToUTF16Values) (pc := 18) dJ11_compareToUTF16Values_18 rfl ?_
    refine r_S (M := m_J11_compareToUTF16Values) (pc := 20) dJ11_compareToUTF16Values_20 m_J11_getChar k_J11_getChar q1579 q1580 (av := [va_rf _, .int _]) (dy := d) n_J11_getChar rfl (pw_c4 (Nat.le_of_ble_eq_true rfl)) (Nat.le_refl _) (H.mono (pw_nx_i (fun x2 w1 H1 => ?_)))
    replace H := H1; clear H1
    refine r_istore (M := m_J11_compareToUTF16Values) (pc := 23) dJ11_compareToUTF16Values_23 (Nat.le_of_ble_eq_true rfl) rfl ?_
    refine r_aload_n (M := m_J11_compareToUTF16Values) (pc := 25) dJ11_compareToUTF16Values_25 1 rfl rfl ?_
    refine r_iload (M := m_J11_compareToUTF16Values) (pc := 26) dJ11_compareToUTF16Values_26 rfl ?_
    refine r_S (M := m_J11_compareToUTF16Values) (pc := 28) dJ11_compareToUTF16Values_28 m_J7_getChar k_J7_getChar q1599 q501 (av := [va_rf _, .int _]) (dy := d) n_J7_getChar rfl (pw_c4 (Nat.le_of_ble_eq_true rfl)) (Nat.le_refl _) (H.mono (pw_nx_i (fun x4 w3 H1 => ?_)))
    replace H := H1; clear H1
    refine r_istore (M := m_J11_compareToUTF16Values) (pc := 31) dJ11_compareToUTF16Values_31 (Nat.le_of_ble_eq_true rfl) rfl ?_
    refine r_iload (M := m_J11_compareToUTF16Values) (pc := 33) dJ11_compareToUTF16Values_33 rfl ?_
    refine r_iload (M := m_J11_compareToUTF16Values) (pc := 35) dJ11_compareToUTF16Values_35 rfl ?_
    refine r_icmp_eq (M := m_J11_compareToUTF16Values) (pc := 37) dJ11_compareToUTF16Values_37 46 (by decide) (fun hc => ?_) (fun hc => ?_)
    · replace H := f_it H hc
      refine r_iinc (M := m_J11_compareToUTF16Values) (pc := 46) dJ11_compareToUTF16Values_46 1 rfl rfl (Nat.le_of_ble_eq_true rfl) rfl ?_
      refine r_goto (M := m_J11_compareToUTF16Values) (pc := 49) dJ11_compareToUTF16Values_49 10 (by decide) ?_
      exact pw_weak (le_s (le_s (le_s (le_s (le_s (le_s (le_n (le_n le_0)))))))) H
    · replace H := f_if H hc
      refine r_iload (M := m_J11_compareToUTF16Values) (pc := 40) dJ11_compareToUTF16Values_40 rfl ?_
      refine r_iload (M := m_J11_compareToUTF16Values) (pc := 42) dJ11_compareToUTF16Values_42 rfl ?_
      refine r_isub (M := m_J11_compareToUTF16Values) (pc := 44) dJ11_compareToUTF16Values_44 ?_
      exact r_ireturn (M := m_J11_compareToUTF16Values) (pc := 45) dJ11_compareToUTF16Values_45 rfl H
theorem e_J11_compareToUTF16Values {E : pw_E} {d : Nat} {w : pw_W} {Post : pw_R → pw_W → Prop} (v0 : Option Nat) (v1 : Option Nat) (v2 : Int32) (v3 : Int32) (H : pw_Wp E m_J11_compareToUTF16Values d 0 [some (va_rf v0), some (va_rf v1), some (.int v2), some (.int v3), none, none, none, none] [] w Post) : pw_Cl E m_J11_compareToUTF16Values d [va_rf v0, va_rf v1, .int v2, .int v3] w Post := pw_meth (by decide) rfl (pw_e1 (pw_cat_rf _) (pw_e1 (pw_cat_rf _) (pw_e1 rfl (pw_e1 rfl (pw_e0 (n := 4)))))) H
theorem s_J11_compareToUTF16_2_0 {E : pw_E} {d : Nat} {w : pw_W} {Post : pw_R → pw_W → Prop} (v0 : Option Nat) (v1 : Option Nat) (v2 : Int32) (v3 : Int32) (H : pw_Cl E m_J11_length d [va_rf v0] w (c_i (fun x2 w1 => pw_Cl E m_J6_checkOffset d [.int v2, .int x2] w1 (c_v (fun w3 => pw_Cl E m_J7_length d [va_rf v1] w3 (c_i (fun x5 w4 => pw_Cl E m_J6_checkOffset d [.int v3, .int x5] w4 (c_v (fun w6 => pw_Cl E m_J11_compareToUTF16Values d [va_rf v0, va_rf v1, .int v2, .int v3] w6 (c_i (fun x8 w7 => Post (.inl (some (.int x8))) w7))))))))))) : pw_Wp E m_J11_compareToUTF16_2 (d + 1) 0 [some (va_rf v0), some (va_rf v1), some (.int v2), some (.int v3)] [] w Post := by
  refine r_iload_n (M := m_J11_compareToUTF16_2) (pc := 0) dJ11_compareToUTF16_2_0 2 rfl rfl ?_
  refine r_aload_n (M := m_J11_compareToUTF16_2) (pc := 1) dJ11_compareToUTF16_2_1 0 rfl rfl ?_
  refine r_S (M := m_J11_compareToUTF16_2) (pc := 2) dJ11_compareToUTF16_2_2 m_J11_length k_J11_length q1592 q1593 (av := [va_rf _]) (dy := d) n_J11_length rfl (pw_c4 (Nat.le_of_ble_eq_true rfl)) (Nat.le_refl _) (H.mono (pw_nx_i (fun x2 w1 H1 => ?_)))
  replace H := H1; clear H1
  refine r_S (M := m_J11_compareToUTF16_2) (pc := 5) dJ11_compareToUTF16_2_5 m_J6_checkOffset k_J6_checkOffset q1634 q1626 (av := [.int _, .int _]) (dy := d) n_J6_checkOffset rfl (pw_c4 (Nat.le_of_ble_eq_true rfl)) (Nat.le_refl _) (H.mono (pw_nx_v (fun w3 H1 => ?_)))
  replace H := H1; clear H1
  refine r_iload_n (M := m_J11_compareToUTF16_2) (pc := 8) dJ11_compareToUTF16_2_8 3 rfl rfl ?_
  refine r_aload_n (M := m_J11_compareToUTF16_2) (pc := 9) dJ11_compareToUTF16_2_9 1 rfl rfl ?_
  refine r_S (M := m_J11_compareToUTF16_2) (pc := 10) dJ11_compareToUTF16_2_10 m_J7_length k_J7_length q1595 q433 (av := [va_rf _]) (dy := d) n_J7_length rfl (pw_c4 (Nat.le_of_ble_eq_true rfl)) (Nat.le_refl _) (H.mono (pw_nx_i (fun x5 w4 H1 => ?_)))
  replace H := H1; clear H1
  refine r_S (M := m_J11_compareToUTF16_2) (pc := 13) dJ11_compareToUTF16_2_13 m_J6_checkOffset k_J6_checkOffset q1634 q1626 (av := [.int _, .int _]) (dy := d) n_J6_checkOffset rfl (pw_c4 (Nat.le_of_ble_eq_true rfl)) (Nat.le_refl _) (H.mono (pw_nx_v (fun w6 H1 => ?_)))
  replace H := H1; clear H1
  refine r_aload_n (M := m_J11_compareToUTF16_2) (pc := 16) dJ11_compareToUTF16_2_16 0 rfl rfl ?_
  refine r_aload_n (M := m_J11_compareToUTF16_2) (pc := 17) dJ11_compareToUTF16_2_17 1 rfl rfl ?_
  refine r_iload_n (M := m_J11_compareToUTF16_2) (pc := 18) dJ11_compareToUTF16_2_18 2 rfl rfl ?_
  refine r_iload_n (M := m_J11_compareToUTF16_2) (pc := 19) dJ11_compareToUTF16_2_19 3 rfl rfl ?_
  refine r_S (M := m_J11_compareToUTF16_2) (pc := 20) dJ11_compareToUTF16_2_20 m_J11_compareToUTF16Values k_J11_compareToUTF16Values q1596 q1597 (av := [va_rf _, va_rf _, .int _, .int _]) (dy := d) n_J11_compareToUTF16Values rfl (pw_c4 (Nat.le_of_ble_eq_true rfl)) (Nat.le_refl _) (H.mono (pw_nx_i (fun x8 w7 H1 => ?_)))
  replace H := H1; clear H1
  exact r_ireturn (M := m_J11_compareToUTF16_2) (pc := 23) dJ11_compareToUTF16_2_23 rfl H
theorem e_J11_compareToUTF16_2 {E : pw_E} {d : Nat} {w : pw_W} {Post : pw_R → pw_W → Prop} (v0 : Option Nat) (v1 : Option Nat) (v2 : Int32) (v3 : Int32) (H : pw_Wp E m_J11_compareToUTF16_2 d 0 [some (va_rf v0), some (va_rf v1), some (.int v2), some (.int v3)] [] w Post) : pw_Cl E m_J11_compareToUTF16_2 d [va_rf v0, va_rf v1, .int v2, .int v3] w Post := pw_meth (by decide) rfl (pw_e1 (pw_cat_rf _) (pw_e1 (pw_cat_rf _) (pw_e1 rfl (pw_e1 rfl (pw_e0 (n := 0)))))) H
theorem s_J11_compareTo_2_0 {E : pw_E} {d : Nat} {w : pw_W} {Post : pw_R → pw_W → Prop} (v0 : Option Nat) (v1 : Option Nat) (v2 : Int32) (v3 : Int32) (H : pw_Cl E m_J8_mismatch d [va_rf v0, va_rf v1, .int (if v3 < v2 then v3 else v2)] w (c_i (fun x2 w1 => (if 0 ≤ x2 then pw_Cl E m_J11_getChar d [va_rf v0, .int x2] w1 (c_i (fun x4 w3 => pw_Cl E m_J11_getChar d [va_rf v1, .int x2] w3 (c_i (fun x6 w5 => Post (.inl (some (.int (x4 - x6)))) w5)))) else Post (.inl (some (.int (v2 - v3)))) w1)))) : pw_Wp E m_J11_compareTo_2 (d + 1) 0 [some (va_rf v0), some (va_rf v1), some (.int v2), some (.int v3), none, none] [] w Post := by
  refine r_iload_n (M := m_J11_compareTo_2) (pc := 0) dJ11_compareTo_2_0 2 rfl rfl ?_
  refine r_iload_n (M := m_J11_compareTo_2) (pc := 1) dJ11_compareTo_2_1 3 rfl rfl ?_
  refine r_min (M := m_J11_compareTo_2) (pc := 2) dJ11_compareTo_2_2 q1474 q406 q149 q407 (Nat.succ_pos _) (pw_c4 (Nat.le_of_ble_eq_true rfl)) ?_
  refine r_istore (M := m_J11_compareTo_2) (pc := 5) dJ11_compareTo_2_5 (Nat.le_of_ble_eq_true rfl) rfl ?_
  refine r_aload_n (M := m_J11_compareTo_2) (pc := 7) dJ11_compareTo_2_7 0 rfl rfl ?_
  refine r_aload_n (M := m_J11_compareTo_2) (pc := 8) dJ11_compareTo_2_8 1 rfl rfl ?_
  refine r_iload (M := m_J11_compareTo_2) (pc := 9) dJ11_compareTo_2_9 rfl ?_
  refine r_S (M := m_J11_compareTo_2) (pc := 11) dJ11_compareTo_2_11 m_J8_mismatch k_J8_mismatch q1475 q1476 (av := [va_rf _, va_rf _, .int _]) (dy := d) n_J8_mismatch rfl (pw_c4 (Nat.le_of_ble_eq_true rfl)) (Nat.le_refl _) (H.mono (pw_nx_i (fun x2 w1 H1 => ?_)))
  replace H := H1; clear H1
  refine r_istore (M := m_J11_compareTo_2) (pc := 14) dJ11_compareTo_2_14 (Nat.le_of_ble_eq_true rfl) rfl ?_
  refine r_iload (M := m_J11_compareTo_2) (pc := 16) dJ11_compareTo_2_16 rfl ?_
  refine r_if_ge (M := m_J11_compareTo_2) (pc := 18) dJ11_compareTo_2_18 27 (by decide) (fun hc => ?_) (fun hc => ?_)
  · replace H := f_it H hc
    refine r_aload_n (M := m_J11_compareTo_2) (pc := 27) dJ11_compareTo_2_27 0 rfl rfl ?_
    refine r_iload (M := m_J11_compareTo_2) (pc := 28) dJ11_compareTo_2_28 rfl ?_
    refine r_S (M := m_J11_compareTo_2) (pc := 30) dJ11_compareTo_2_30 m_J11_getChar k_J11_getChar q1579 q1580 (av := [va_rf _, .int _]) (dy := d) n_J11_getChar rfl (pw_c4 (Nat.le_of_ble_eq_true rfl)) (Nat.le_refl _) (H.mono (pw_nx_i (fun x4 w3 H1 => ?_)))
    replace H := H1; clear H1
    refine r_aload_n (M := m_J11_compareTo_2) (pc := 33) dJ11_compareTo_2_33 1 rfl rfl ?_
    refine r_iload (M := m_J11_compareTo_2) (pc := 34) dJ11_compareTo_2_34 rfl ?_
    refine r_S (M := m_J11_compareTo_2) (pc := 36) dJ11_compareTo_2_36 m_J11_getChar k_J11_getChar q1579 q1580 (av := [va_rf _, .int _]) (dy := d) n_J11_getChar rfl (pw_c4 (Nat.le_of_ble_eq_true rfl)) (Nat.le_refl _) (H.mono (pw_nx_i (fun x6 w5 H1 => ?_)))
    replace H := H1; clear H1
    refine r_isub (M := m_J11_compareTo_2) (pc := 39) dJ11_compareTo_2_39 ?_
    exact r_ireturn (M := m_J11_compareTo_2) (pc := 40) dJ11_compareTo_2_40 rfl H
  · replace H := f_if H hc
    refine r_iload_n (M := m_J11_compareTo_2) (pc := 21) dJ11_compareTo_2_21 2 rfl rfl ?_
    refine r_iload_n (M := m_J11_compareTo_2) (pc := 22) dJ11_compareTo_2_22 3 rfl rfl ?_
    refine r_isub (M := m_J11_compareTo_2) (pc := 23) dJ11_compareTo_2_23 ?_
    refine r_goto (M := m_J11_compareTo_2) (pc := 24) dJ11_compareTo_2_24 40 (by decide) ?_
    exact r_ireturn (M := m_J11_compareTo_2) (pc := 40) dJ11_compareTo_2_40 rfl H
theorem e_J11_compareTo_2 {E : pw_E} {d : Nat} {w : pw_W} {Post : pw_R → pw_W → Prop} (v0 : Option Nat) (v1 : Option Nat) (v2 : Int32) (v3 : Int32) (H : pw_Wp E m_J11_compareTo_2 d 0 [some (va_rf v0), some (va_rf v1), some (.int v2), some (.int v3), none, none] [] w Post) : pw_Cl E m_J11_compareTo_2 d [va_rf v0, va_rf v1, .int v2, .int v3] w Post := pw_meth (by decide) rfl (pw_e1 (pw_cat_rf _) (pw_e1 (pw_cat_rf _) (pw_e1 rfl (pw_e1 rfl (pw_e0 (n := 2)))))) H
theorem s_J11_equals_0 {E : pw_E} {d : Nat} {w : pw_W} {Post : pw_R → pw_W → Prop} (v0 : Option Nat) (v1 : Option Nat) (H : f_len w v0 (fun x1 => f_len w v1 (fun x6 => (if x1 = x6 then pw_Wp E m_J11_equals (d + 1) 9 [some (va_rf v0), some (va_rf v1), some (.int 0)] [] w Post else Post (.inl (some (.int 0))) w)))) : pw_Wp E m_J11_equals (d + 1) 0 [some (va_rf v0), some (va_rf v1), none] [] w Post := by
  refine r_aload_n (M := m_J11_equals) (pc := 0) dJ11_equals_0 0 rfl rfl ?_
  obtain ⟨a2, t3, tyt3, vs4, e9, h5, h5t, H⟩ := H; cases e9
  refine r_alen (M := m_J11_equals) (pc := 1) dJ11_equals_1 t3 tyt3 h5t h5 ?_
  refine r_aload_n (M := m_J11_equals) (pc := 2) dJ11_equals_2 1 rfl rfl ?_
  obtain ⟨a7, t8, tyt8, vs9, e9, h10, h10t, H⟩ := H; cases e9
  refine r_alen (M := m_J11_equals) (pc := 3) dJ11_equals_3 t8 tyt8 h10t h10 ?_
  refine r_icmp_ne (M := m_J11_equals) (pc := 4) dJ11_equals_4 34 (by decide) (fun hc => ?_) (fun hc => ?_)
  · replace H := f_if H hc
    refine r_iconst (M := m_J11_equals) (pc := 34) dJ11_equals_34 0 rfl ?_
    exact r_zreturn (M := m_J11_equals) (pc := 35) dJ11_equals_35 rfl rfl H
  · replace H := f_it H hc
    refine r_iconst (M := m_J11_equals) (pc := 7) dJ11_equals_7 0 rfl ?_
    refine r_istore_n (M := m_J11_equals) (pc := 8) dJ11_equals_8 2 rfl (Nat.le_of_ble_eq_true rfl) (pw_pre_rf rfl) ?_
    exact pw_weak (le_s (le_s (le_s le_0))) H
theorem s_J11_equals_9 {E : pw_E} {d : Nat} {w : pw_W} {Post : pw_R → pw_W → Prop} (v0 : Option Nat) (v1 : Option Nat) (v2 : Int32) (H : f_len w v0 (fun x1 => (if x1 ≤ v2 then Post (.inl (some (.int 1))) w else f_aldb w v0 v2 (fun x6 => f_aldb w v1 v2 (fun x11 => (if x6 = x11 then pw_Wp E m_J11_equals (d + 1) 9 [some (va_rf v0), some (va_rf v1), some (.int (v2 + 1))] [] w Post else Post (.inl (some (.int 0))) w)))))) : pw_Wp E m_J11_equals (d + 1) 9 [some (va_rf v0), some (va_rf v1), some (.int v2)] [] w Post := by
  refine r_iload_n (M := m_J11_equals) (pc := 9) dJ11_equals_9 2 rfl rfl ?_
  refine r_aload_n (M := m_J11_equals) (pc := 10) dJ11_equals_10 0 rfl rfl ?_
  obtain ⟨a2, t3, tyt3, vs4, e9, h5, h5t, H⟩ := H; cases e9
  refine r_alen (M := m_J11_equals) (pc := 11) dJ11_equals_11 t3 tyt3 h5t h5 ?_
  refine r_icmp_ge (M := m_J11_equals) (pc := 12) dJ11_equals_12 32 (by decide) (fun hc => ?_) (fun hc => ?_)
  · replace H := f_it H hc
    refine r_iconst (M := m_J11_equals) (pc := 32) dJ11_equals_32 1 rfl ?_
    exact r_zreturn (M := m_J11_equals) (pc := 33) dJ11_equals_33 rfl rfl H
  · replace H := f_if H hc
    refine r_aload_n (M := m_J11_equals) (pc := 15) dJ11_equals_15 0 rfl rfl ?_
    refine r_iload_n (M := m_J11_equals) (pc := 16) dJ11_equals_16 2 rfl rfl ?_
    obtain ⟨a7, vs9, x6, e9, h10, h100, h10v, H⟩ := H; cases e9
    refine r_baload (M := m_J11_equals) (pc := 17) dJ11_equals_17 h10 h100 h10v ?_
    refine r_aload_n (M := m_J11_equals) (pc := 18) dJ11_equals_18 1 rfl rfl ?_
    refine r_iload_n (M := m_J11_equals) (pc := 19) dJ11_equals_19 2 rfl rfl ?_
    obtain ⟨a12, vs14, x11, e9, h15, h150, h15v, H⟩ := H; cases e9
    refine r_baload (M := m_J11_equals) (pc := 20) dJ11_equals_20 h15 h150 h15v ?_
    refine r_icmp_eq (M := m_J11_equals) (pc := 21) dJ11_equals_21 26 (by decide) (fun hc => ?_) (fun hc => ?_)
    · replace H := f_it H hc
      refine r_iinc (M := m_J11_equals) (pc := 26) dJ11_equals_26 1 rfl rfl (Nat.le_of_ble_eq_true rfl) (pw_pre_rf rfl) ?_
      refine r_goto (M := m_J11_equals) (pc := 29) dJ11_equals_29 9 (by decide) ?_
      exact pw_weak (le_s (le_s (le_s le_0))) H
    · replace H := f_if H hc
      refine r_iconst (M := m_J11_equals) (pc := 24) dJ11_equals_24 0 rfl ?_
      exact r_zreturn (M := m_J11_equals) (pc := 25) dJ11_equals_25 rfl rfl H
theorem e_J11_equals {E : pw_E} {d : Nat} {w : pw_W} {Post : pw_R → pw_W → Prop} (v0 : Option Nat) (v1 : Option Nat) (H : pw_Wp E m_J11_equals d 0 [some (va_rf v0), some (va_rf v1), none] [] w Post) : pw_Cl E m_J11_equals d [va_rf v0, va_rf v1] w Post := pw_meth (by decide) rfl (pw_e1 (pw_cat_rf _) (pw_e1 (pw_cat_rf _) (pw_e0 (n := 1)))) H
theorem s_J11_getChar_0 {E : pw_E} {d : Nat} {w : pw_W} {Post : pw_R → pw_W → Prop} (v0 : Option Nat) (v1 : Int32) (H : f_aldb w v0 v1 (fun x1 => (narrow .char (.int (((x1 &&& 255).toUInt32 % 65536).toInt32)) = .int (((x1 &&& 255).toUInt32 % 65536).toInt32) ∧ Post (.inl (some (.int (((x1 &&& 255).toUInt32 % 65536).toInt32)))) w))) : pw_Wp E m_J11_getChar (d + 1) 0 [some (va_rf v0), some (.int v1)] [] w Post := by
  refine r_aload_n (M := m_J11_getChar) (pc := 0) dJ11_getChar_0 0 rfl rfl ?_
  refine r_iload_n (M := m_J11_getChar) (pc := 1) dJ11_getChar_1 1 rfl rfl ?_
  obtain ⟨a2, vs4, x1, e9, h5, h50, h5v, H⟩ := H; cases e9
  refine r_baload (M := m_J11_getChar) (pc := 2) dJ11_getChar_2 h5 h50 h5v ?_
  refine r_sipush (M := m_J11_getChar) (pc := 3) dJ11_getChar_3 255 rfl ?_
  refine r_iand (M := m_J11_getChar) (pc := 6) dJ11_getChar_6 ?_
  refine r_i2c (M := m_J11_getChar) (pc := 7) dJ11_getChar_7 ?_
  exact r_zreturn (M := m_J11_getChar) (pc := 8) dJ11_getChar_8 rfl H.1 H.2
theorem e_J11_getChar {E : pw_E} {d : Nat} {w : pw_W} {Post : pw_R → pw_W → Prop} (v0 : Option Nat) (v1 : Int32) (H : pw_Wp E m_J11_getChar d 0 [some (va_rf v0), some (.int v1)] [] w Post) : pw_Cl E m_J11_getChar d [va_rf v0, .int v1] w Post := pw_meth (by decide) rfl (pw_e1 (pw_cat_rf _) (pw_e1 rfl (pw_e0 (n := 0)))) H
theorem s_J11_inflate_0 {E : pw_E} {d : Nat} {w : pw_W} {Post : pw_R → pw_W → Prop} (v0 : Option Nat) (v1 : Int32) (v2 : Option Nat) (v3 : Int32) (v4 : Int32) (H : pw_Cl E m_J7_inflate d [va_rf v0, .int v1, va_rf v2, .int v3, .int v4] w (c_v (fun w1 => Post (.inl none) w1))) : pw_Wp E m_J11_inflate (d + 1) 0 [some (va_rf v0), some (.int v1), some (va_rf v2), some (.int v3), some (.int v4)] [] w Post := by
  refine r_aload_n (M := m_J11_inflate) (pc := 0) dJ11_inflate_0 0 rfl rfl ?_
  refine r_iload_n (M := m_J11_inflate) (pc := 1) dJ11_inflate_1 1 rfl rfl ?_
  refine r_aload_n (M := m_J11_inflate) (pc := 2) dJ11_inflate_2 2 rfl rfl ?_
  refine r_iload_n (M := m_J11_inflate) (pc := 3) dJ11_inflate_3 3 rfl rfl ?_
  refine r_iload (M := m_J11_inflate) (pc := 4) dJ11_inflate_4 rfl ?_
  refine r_S (M := m_J11_inflate) (pc := 6) dJ11_inflate_6 m_J7_inflate k_J7_inflate q426 q427 (av := [va_rf _, .int _, va_rf _, .int _, .int _]) (dy := d) n_J7_inflate rfl (pw_c4 (Nat.le_of_ble_eq_true rfl)) (Nat.le_refl _) (H.mono (pw_nx_v (fun w1 H1 => ?_)))
  replace H := H1; clear H1
  exact r_return (M := m_J11_inflate) (pc := 9) dJ11_inflate_9 rfl H
theorem e_J11_inflate {E : pw_E} {d : Nat} {w : pw_W} {Post : pw_R → pw_W → Prop} (v0 : Option Nat) (v1 : Int32) (v2 : Option Nat) (v3 : Int32) (v4 : Int32) (H : pw_Wp E m_J11_inflate d 0 [some (va_rf v0), some (.int v1), some (va_rf v2), some (.int v3), some (.int v4)] [] w Post) : pw_Cl E m_J11_inflate d [va_rf v0, .int v1, va_rf v2, .int v3, .int v4] w Post := pw_meth (by decide) rfl (pw_e1 (pw_cat_rf _) (pw_e1 rfl (pw_e1 (pw_cat_rf _) (pw_e1 rfl (pw_e1 rfl (pw_e0 (n := 0))))))) H
theorem s_J11_length_0 {E : pw_E} {d : Nat} {w : pw_W} {Post : pw_R → pw_W → Prop} (v0 : Option Nat) (H : f_len w v0 (fun x1 => Post (.inl (some (.int x1))) w)) : pw_Wp E m_J11_length (d + 1) 0 [some (va_rf v0)] [] w Post := by
  refine r_aload_n (M := m_J11_length) (pc := 0) dJ11_length_0 0 rfl rfl ?_
  obtain ⟨a2, t3, tyt3, vs4, e9, h5, h5t, H⟩ := H; cases e9
  refine r_alen (M := m_J11_length) (pc := 1) dJ11_length_1 t3 tyt3 h5t h5 ?_
  exact r_ireturn (M := m_J11_length) (pc := 2) dJ11_length_2 rfl H
theorem e_J11_length {E : pw_E} {d : Nat} {w : pw_W} {Post : pw_R → pw_W → Prop} (v0 : Option Nat) (H : pw_Wp E m_J11_length d 0 [some (va_rf v0)] [] w Post) : pw_Cl E m_J11_length d [va_rf v0] w Post := pw_meth (by decide) rfl (pw_e1 (pw_cat_rf _) (pw_e0 (n := 0))) H
theorem s_J12_checkFromIndexSize_0 {E : pw_E} {d : Nat} {w : pw_W} {Post : pw_R → pw_W → Prop} (v0 : Int32) (v1 : Int32) (v2 : Int32) (v3 : Option Nat) (H : (if ((v2 ||| v0) ||| v1) < 0 then False else (if v1 ≤ (v2 - v0) then Post (.inl (some (.int v0))) w else False))) : pw_Wp E m_J12_checkFromIndexSize (d + 1) 0 [some (.int v0), some (.int v1), some (.int v2), some (va_rf v3)] [] w Post := by
  refine r_iload_n (M := m_J12_checkFromIndexSize) (pc := 0) dJ12_checkFromIndexSize_0 2 rfl rfl ?_
  refine r_iload_n (M := m_J12_checkFromIndexSize) (pc := 1) dJ12_checkFromIndexSize_1 0 rfl rfl ?_
  refine r_ior (M := m_J12_checkFromIndexSize) (pc := 2) dJ12_checkFromIndexSize_2 ?_
  refine r_iload_n (M := m_J12_checkFromIndexSize) (pc := 3) dJ12_checkFromIndexSize_3 1 rfl rfl ?_
  refine r_ior (M := m_J12_checkFromIndexSize) (pc := 4) dJ12_checkFromIndexSize_4 ?_
  refine r_if_lt (M := m_J12_checkFromIndexSize) (pc := 5) dJ12_checkFromIndexSize_5 15 (by decide) (fun hc => ?_) (fun hc => ?_)
  · replace H := f_it H hc
    refine r_aload_n (M := m_J12_checkFromIndexSize) (pc := 15) dJ12_checkFromIndexSize_15 3 rfl rfl ?_
    refine r_iload_n (M := m_J12_checkFromIndexSize) (pc := 16) dJ12_checkFromIndexSize_16 0 rfl rfl ?_
    refine r_iload_n (M := m_J12_checkFromIndexSize) (pc := 17) dJ12_checkFromIndexSize_17 1 rfl rfl ?_
    refine r_iload_n (M := m_J12_checkFromIndexSize) (pc := 18) dJ12_checkFromIndexSize_18 2 rfl rfl ?_
    exact H.elim
  · replace H := f_if H hc
    refine r_iload_n (M := m_J12_checkFromIndexSize) (pc := 8) dJ12_checkFromIndexSize_8 1 rfl rfl ?_
    refine r_iload_n (M := m_J12_checkFromIndexSize) (pc := 9) dJ12_checkFromIndexSize_9 2 rfl rfl ?_
    refine r_iload_n (M := m_J12_checkFromIndexSize) (pc := 10) dJ12_checkFromIndexSize_10 0 rfl rfl ?_
    refine r_isub (M := m_J12_checkFromIndexSize) (pc := 11) dJ12_checkFromIndexSize_11 ?_
    refine r_icmp_le (M := m_J12_checkFromIndexSize) (pc := 12) dJ12_checkFromIndexSize_12 23 (by decide) (fun hc => ?_) (fun hc => ?_)
    · replace H := f_it H hc
      refine r_iload_n (M := m_J12_checkFromIndexSize) (pc := 23) dJ12_checkFromIndexSize_23 0 rfl rfl ?_
      exact r_ireturn (M := m_J12_checkFromIndexSize) (pc := 24) dJ12_checkFromIndexSize_24 rfl H
    · replace H := f_if H hc
      refine r_aload_n (M := m_J12_checkFromIndexSize) (pc := 15) dJ12_checkFromIndexSize_15 3 rfl rfl ?_
      refine r_iload_n (M := m_J12_checkFromIndexSize) (pc := 16) dJ12_checkFromIndexSize_16 0 rfl rfl ?_
      refine r_iload_n (M := m_J12_checkFromIndexSize) (pc := 17) dJ12_checkFromIndexSize_17 1 rfl rfl ?_
      refine r_iload_n (M := m_J12_checkFromIndexSize) (pc := 18) dJ12_checkFromIndexSize_18 2 rfl rfl ?_
      exact H.elim
theorem e_J12_checkFromIndexSize {E : pw_E} {d : Nat} {w : pw_W} {Post : pw_R → pw_W → Prop} (v0 : Int32) (v1 : Int32) (v2 : Int32) (v3 : Option Nat) (H : pw_Wp E m_J12_checkFromIndexSize d 0 [some (.int v0), some (.int v1), some (.int v2), some (va_rf v3)] [] w Post) : pw_Cl E m_J12_checkFromIndexSize d [.int v0, .int v1, .int v2, va_rf v3] w Post := pw_meth (by decide) rfl (pw_e1 rfl (pw_e1 rfl (pw_e1 rfl (pw_e1 (pw_cat_rf _) (pw_e0 (n := 0)))))) H
theorem s_J12_checkFromToIndex_0 {E : pw_E} {d : Nat} {w : pw_W} {Post : pw_R → pw_W → Prop} (v0 : Int32) (v1 : Int32) (v2 : Int32) (v3 : Option Nat) (H : (if v0 < 0 then False else (if v1 < v0 then False else (if v1 ≤ v2 then Post (.inl (some (.int v0))) w else False)))) : pw_Wp E m_J12_checkFromToIndex (d + 1) 0 [some (.int v0), some (.int v1), some (.int v2), some (va_rf v3)] [] w Post := by
  refine r_iload_n (M := m_J12_checkFromToIndex) (pc := 0) dJ12_checkFromToIndex_0 0 rfl rfl ?_
  refine r_if_lt (M := m_J12_checkFromToIndex) (pc := 1) dJ12_checkFromToIndex_1 14 (by decide) (fun hc => ?_) (fun hc => ?_)
  · replace H := f_it H hc
    refine r_aload_n (M := m_J12_checkFromToIndex) (pc := 14) dJ12_checkFromToIndex_14 3 rfl rfl ?_
    refine r_iload_n (M := m_J12_checkFromToIndex) (pc := 15) dJ12_checkFromToIndex_15 0 rfl rfl ?_
    refine r_iload_n (M := m_J12_checkFromToIndex) (pc := 16) dJ12_checkFromToIndex_16 1 rfl rfl ?_
    refine r_iload_n (M := m_J12_checkFromToIndex) (pc := 17) dJ12_checkFromToIndex_17 2 rfl rfl ?_
    exact H.elim
  · replace H := f_if H hc
    refine r_iload_n (M := m_J12_checkFromToIndex) (pc := 4) dJ12_checkFromToIndex_4 0 rfl rfl ?_
    refine r_iload_n (M := m_J12_checkFromToIndex) (pc := 5) dJ12_checkFromToIndex_5 1 rfl rfl ?_
    refine r_icmp_gt (M := m_J12_checkFromToIndex) (pc := 6) dJ12_checkFromToIndex_6 14 (by decide) (fun hc => ?_) (fun hc => ?_)
    · replace H := f_it H hc
      refine r_aload_n (M := m_J12_checkFromToIndex) (pc := 14) dJ12_checkFromToIndex_14 3 rfl rfl ?_
      refine r_iload_n (M := m_J12_checkFromToIndex) (pc := 15) dJ12_checkFromToIndex_15 0 rfl rfl ?_
      refine r_iload_n (M := m_J12_checkFromToIndex) (pc := 16) dJ12_checkFromToIndex_16 1 rfl rfl ?_
      refine r_iload_n (M := m_J12_checkFromToIndex) (pc := 17) dJ12_checkFromToIndex_17 2 rfl rfl ?_
      exact H.elim
    · replace H := f_if H hc
      refine r_iload_n (M := m_J12_checkFromToIndex) (pc := 9) dJ12_checkFromToIndex_9 1 rfl rfl ?_
      refine r_iload_n (M := m_J12_checkFromToIndex) (pc := 10) dJ12_checkFromToIndex_10 2 rfl rfl ?_
      refine r_icmp_le (M := m_J12_checkFromToIndex) (pc := 11) dJ12_checkFromToIndex_11 22 (by decide) (fun hc => ?_) (fun hc => ?_)
      · replace H := f_it H hc
        refine r_iload_n (M := m_J12_checkFromToIndex) (pc := 22) dJ12_checkFromToIndex_22 0 rfl rfl ?_
        exact r_ireturn (M := m_J12_checkFromToIndex) (pc := 23) dJ12_checkFromToIndex_23 rfl H
      · replace H := f_if H hc
        refine r_aload_n (M := m_J12_checkFromToIndex) (pc := 14) dJ12_checkFromToIndex_14 3 rfl rfl ?_
        refine r_iload_n (M := m_J12_checkFromToIndex) (pc := 15) dJ12_checkFromToIndex_15 0 rfl rfl ?_
        refine r_iload_n (M := m_J12_checkFromToIndex) (pc := 16) dJ12_checkFromToIndex_16 1 rfl rfl ?_
        refine r_iload_n (M := m_J12_checkFromToIndex) (pc := 17) dJ12_checkFromToIndex_17 2 rfl rfl ?_
        exact H.elim
theorem e_J12_checkFromToIndex {E : pw_E} {d : Nat} {w : pw_W} {Post : pw_R → pw_W → Prop} (v0 : Int32) (v1 : Int32) (v2 : Int32) (v3 : Option Nat) (H : pw_Wp E m_J12_checkFromToIndex d 0 [some (.int v0), some (.int v1), some (.int v2), some (va_rf v3)] [] w Post) : pw_Cl E m_J12_checkFromToIndex d [.int v0, .int v1, .int v2, va_rf v3] w Post := pw_meth (by decide) rfl (pw_e1 rfl (pw_e1 rfl (pw_e1 rfl (pw_e1 (pw_cat_rf _) (pw_e0 (n := 0)))))) H
theorem s_J12_checkIndex_0 {E : pw_E} {d : Nat} {w : pw_W} {Post : pw_R → pw_W → Prop} (v0 : Int32) (v1 : Int32) (v2 : Option Nat) (H : (if v0 < 0 then False else (if v0 < v1 then Post (.inl (some (.int v0))) w else False))) : pw_Wp E m_J12_checkIndex (d + 1) 0 [some (.int v0), some (.int v1), some (va_rf v2)] [] w Post := by
  refine r_iload_n (M := m_J12_checkIndex) (pc := 0) dJ12_checkIndex_0 0 rfl rfl ?_
  refine r_if_lt (M := m_J12_checkIndex) (pc := 1) dJ12_checkIndex_1 9 (by decide) (fun hc => ?_) (fun hc => ?_)
  · replace H := f_it H hc
    refine r_aload_n (M := m_J12_checkIndex) (pc := 9) dJ12_checkIndex_9 2 rfl rfl ?_
    refine r_iload_n (M := m_J12_checkIndex) (pc := 10) dJ12_checkIndex_10 0 rfl rfl ?_
    refine r_iload_n (M := m_J12_checkIndex) (pc := 11) dJ12_checkIndex_11 1 rfl rfl ?_
    exact H.elim
  · replace H := f_if H hc
    refine r_iload_n (M := m_J12_checkIndex) (pc := 4) dJ12_checkIndex_4 0 rfl rfl ?_
    refine r_iload_n (M := m_J12_checkIndex) (pc := 5) dJ12_checkIndex_5 1 rfl rfl ?_
    refine r_icmp_lt (M := m_J12_checkIndex) (pc := 6) dJ12_checkIndex_6 16 (by decide) (fun hc => ?_) (fun hc => ?_)
    · replace H := f_it H hc
      refine r_iload_n (M := m_J12_checkIndex) (pc := 16) dJ12_checkIndex_16 0 rfl rfl ?_
      exact r_ireturn (M := m_J12_checkIndex) (pc := 17) dJ12_checkIndex_17 rfl H
    · replace H := f_if H hc
      refine r_aload_n (M := m_J12_checkIndex) (pc := 9) dJ12_checkIndex_9 2 rfl rfl ?_
      refine r_iload_n (M := m_J12_checkIndex) (pc := 10) dJ12_checkIndex_10 0 rfl rfl ?_
      refine r_iload_n (M := m_J12_checkIndex) (pc := 11) dJ12_checkIndex_11 1 rfl rfl ?_
      exact H.elim
theorem e_J12_checkIndex {E : pw_E} {d : Nat} {w : pw_W} {Post : pw_R → pw_W → Prop} (v0 : Int32) (v1 : Int32) (v2 : Option Nat) (H : pw_Wp E m_J12_checkIndex d 0 [some (.int v0), some (.int v1), some (va_rf v2)] [] w Post) : pw_Cl E m_J12_checkIndex d [.int v0, .int v1, va_rf v2] w Post := pw_meth (by decide) rfl (pw_e1 rfl (pw_e1 rfl (pw_e1 (pw_cat_rf _) (pw_e0 (n := 0))))) H
theorem s_J13_init_0 {E : pw_E} {d : Nat} {w : pw_W} {Post : pw_R → pw_W → Prop} (a0 : Nat) (H : f_put E w (some a0) 5 0 (va_rf (some a0)) (fun w4 => f_str E 4 (fun x5 => f_put E w4 (some a0) 5 1 (va_rf x5) (fun w10 => f_str E 5 (fun x11 => f_put E w10 (some a0) 5 2 (va_rf x11) (fun w16 => False)))))) : pw_Wp E m_J13_init (d + 1) 0 [some (va_rf (some a0))] [] w Post := by
  refine r_aload_n (M := m_J13_init) (pc := 0) dJ13_init_0 0 rfl rfl ?_
  refine r_objInit (M := m_J13_init) (pc := 1) dJ13_init_1 q647 q197 q198 (Nat.succ_pos _) (Nat.le_of_ble_eq_true rfl) ?_
  refine r_aload_n (M := m_J13_init) (pc := 4) dJ13_init_4 0 rfl rfl ?_
  refine r_aload_n (M := m_J13_init) (pc := 5) dJ13_init_5 0 rfl rfl ?_
  obtain ⟨a1, fs2, e9, h3, h3b, H⟩ := H; cases e9
  refine r_put (M := m_J13_init) (pc := 6) dJ13_init_6 "java/lang/Throwable" 5 0 _ rfl (Nat.le_of_ble_eq_true rfl) q675 (Or.inl rfl) rfl h3 (Nat.le_of_ble_eq_true rfl) h3b (nar_ro _ _) (fit_ro _ _) ?_
  refine r_aload_n (M := m_J13_init) (pc := 9) dJ13_init_9 0 rfl rfl ?_
  obtain ⟨x5, h6, H⟩ := H
  refine r_getstatic (M := m_J13_init) (pc := 10) dJ13_init_10 4 _ rfl q648 h6 ?_
  obtain ⟨a7, fs8, e9, h9, h9b, H⟩ := H; cases e9
  refine r_put (M := m_J13_init) (pc := 13) dJ13_init_13 "java/lang/Throwable" 5 1 _ rfl (Nat.le_of_ble_eq_true rfl) q676 (Or.inl rfl) rfl h9 (Nat.le_of_ble_eq_true rfl) h9b (nar_ra _ _) (fit_ra _ _) ?_
  refine r_aload_n (M := m_J13_init) (pc := 16) dJ13_init_16 0 rfl rfl ?_
  obtain ⟨x11, h12, H⟩ := H
  refine r_getstatic (M := m_J13_init) (pc := 17) dJ13_init_17 5 _ rfl q650 h12 ?_
  obtain ⟨a13, fs14, e9, h15, h15b, H⟩ := H; cases e9
  refine r_put (M := m_J13_init) (pc := 20) dJ13_init_20 "java/lang/Throwable" 5 2 _ rfl (Nat.le_of_ble_eq_true rfl) q677 (Or.inl rfl) rfl h15 (Nat.le_of_ble_eq_true rfl) h15b (nar_ro _ _) (fit_ro _ _) ?_
  refine r_aload_n (M := m_J13_init) (pc := 23) dJ13_init_23 0 rfl rfl ?_
  exact H.elim
theorem e_J13_init {E : pw_E} {d : Nat} {w : pw_W} {Post : pw_R → pw_W → Prop} (a0 : Nat) (H : pw_Wp E m_J13_init d 0 [some (va_rf (some a0))] [] w Post) : pw_Cl E m_J13_init d [va_rf (some a0)] w Post := pw_meth (by decide) rfl (pw_e1 (pw_cat_rf _) (pw_e0 (n := 0))) H
theorem s_J14_init_0 {E : pw_E} {d : Nat} {w : pw_W} {Post : pw_R → pw_W → Prop} (a0 : Nat) (H : pw_Cl E m_J13_init d (va_rf (some a0) :: []) w (c_v (fun w1 => Post (.inl none) w1))) : pw_Wp E m_J14_init (d + 1) 0 [some (va_rf (some a0))] [] w Post := by
  refine r_aload_n (M := m_J14_init) (pc := 0) dJ14_init_0 0 rfl rfl ?_
  refine r_I (M := m_J14_init) (pc := 1) dJ14_init_1 m_J13_init k_J13_init rfl rfl q667 q645 (av := []) (dy := d) n_J13_init rfl (pw_c4 (Nat.le_of_ble_eq_true rfl)) (Nat.le_refl _) (H.mono (pw_nx_v (fun w1 H1 => ?_)))
  replace H := H1; clear H1
  exact r_return (M := m_J14_init) (pc := 4) dJ14_init_4 rfl H
theorem e_J14_init {E : pw_E} {d : Nat} {w : pw_W} {Post : pw_R → pw_W → Prop} (a0 : Nat) (H : pw_Wp E m_J14_init d 0 [some (va_rf (some a0))] [] w Post) : pw_Cl E m_J14_init d [va_rf (some a0)] w Post := pw_meth (by decide) rfl (pw_e1 (pw_cat_rf _) (pw_e0 (n := 0))) H
theorem s_J15_checkForComodification_0 {E : pw_E} {d : Nat} {w : pw_W} {Post : pw_R → pw_W → Prop} (v0 : Option Nat) (H : f_getr w v0 19 3 (fun x1 => f_geti w x1 18 0 (fun x5 => f_geti w v0 19 2 (fun x9 => (if x5 = x9 then Post (.inl none) w else False))))) : pw_Wp E m_J15_checkForComodification (d + 1) 0 [some (va_rf v0)] [] w Post := by
  refine r_aload_n (M := m_J15_checkForComodification) (pc := 0) dJ15_checkForComodification_0 0 rfl rfl ?_
  obtain ⟨a2, fs3, x1, e9, h4, h4v, H⟩ := H; cases e9
  refine r_get (M := m_J15_checkForComodification) (pc := 1) dJ15_checkForComodification_1 "java/util/ArrayList$Itr" 19 3 _ rfl (Nat.le_of_ble_eq_true rfl) q846 (Or.inl rfl) h4 (Nat.le_of_ble_eq_true rfl) h4v ?_
  obtain ⟨a6, fs7, x5, e9, h8, h8v, H⟩ := H; cases e9
  refine r_get (M := m_J15_checkForComodification) (pc := 4) dJ15_checkForComodification_4 "java/util/ArrayList" 18 0 _ rfl (Nat.le_of_ble_eq_true rfl) q226 (Or.inr q227) h8 (Nat.le_of_ble_eq_true rfl) h8v ?_
  refine r_aload_n (M := m_J15_checkForComodification) (pc := 7) dJ15_checkForComodification_7 0 rfl rfl ?_
  obtain ⟨a10, fs11, x9, e9, h12, h12v, H⟩ := H; cases e9
  refine r_get (M := m_J15_checkForComodification) (pc := 8) dJ15_checkForComodification_8 "java/util/ArrayList$Itr" 19 2 _ rfl (Nat.le_of_ble_eq_true rfl) q845 (Or.inl rfl) h12 (Nat.le_of_ble_eq_true rfl) h12v ?_
  refine r_icmp_eq (M := m_J15_checkForComodification) (pc := 11) dJ15_checkForComodification_11 22 (by decide) (fun hc => ?_) (fun hc => ?_)
  · replace H := f_it H hc
    exact r_return (M := m_J15_checkForComodification) (pc := 22) dJ15_checkForComodification_22 rfl H
  · replace H := f_if H hc
    exact H.elim
theorem e_J15_checkForComodification {E : pw_E} {d : Nat} {w : pw_W} {Post : pw_R → pw_W → Prop} (v0 : Option Nat) (H : pw_Wp E m_J15_checkForComodification d 0 [some (va_rf v0)] [] w Post) : pw_Cl E m_J15_checkForComodification d [va_rf v0] w Post := pw_meth (by decide) rfl (pw_e1 (pw_cat_rf _) (pw_e0 (n := 0))) H
theorem s_J15_hasNext_0 {E : pw_E} {d : Nat} {w : pw_W} {Post : pw_R → pw_W → Prop} (v0 : Option Nat) (H : f_geti w v0 19 0 (fun x1 => f_getr w v0 19 3 (fun x5 => f_geti w x5 18 2 (fun x9 => (if x1 = x9 then Post (.inl (some (.int 0))) w else Post (.inl (some (.int 1))) w))))) : pw_Wp E m_J15_hasNext (d + 1) 0 [some (va_rf v0)] [] w Post := by
  refine r_aload_n (M := m_J15_hasNext) (pc := 0) dJ15_hasNext_0 0 rfl rfl ?_
  obtain ⟨a2, fs3, x1, e9, h4, h4v, H⟩ := H; cases e9
  refine r_get (M := m_J15_hasNext) (pc := 1) dJ15_hasNext_1 "java/util/ArrayList$Itr" 19 0 _ rfl (Nat.le_of_ble_eq_true rfl) q843 (Or.inl rfl) h4 (Nat.le_of_ble_eq_true rfl) h4v ?_
  refine r_aload_n (M := m_J15_hasNext) (pc := 4) dJ15_hasNext_4 0 rfl rfl ?_
  obtain ⟨a6, fs7, x5, e9, h8, h8v, H⟩ := H; cases e9
  refine r_get (M := m_J15_hasNext) (pc := 5) dJ15_hasNext_5 "java/util/ArrayList$Itr" 19 3 _ rfl (Nat.le_of_ble_eq_true rfl) q846 (Or.inl rfl) h8 (Nat.le_of_ble_eq_true rfl) h8v ?_
  obtain ⟨a10, fs11, x9, e9, h12, h12v, H⟩ := H; cases e9
  refine r_getN (M := m_J15_hasNext) (pc := 8) dJ15_hasNext_8 "java/util/ArrayList" 18 2 _ rfl (Nat.le_of_ble_eq_true rfl) q223 h12 (Nat.le_of_ble_eq_true rfl) h12v ?_
  refine r_icmp_eq (M := m_J15_hasNext) (pc := 11) dJ15_hasNext_11 18 (by decide) (fun hc => ?_) (fun hc => ?_)
  · replace H := f_it H hc
    refine r_iconst (M := m_J15_hasNext) (pc := 18) dJ15_hasNext_18 0 rfl ?_
    exact r_zreturn (M := m_J15_hasNext) (pc := 19) dJ15_hasNext_19 rfl rfl H
  · replace H := f_if H hc
    refine r_iconst (M := m_J15_hasNext) (pc := 14) dJ15_hasNext_14 1 rfl ?_
    refine r_goto (M := m_J15_hasNext) (pc := 15) dJ15_hasNext_15 19 (by decide) ?_
    exact r_zreturn (M := m_J15_hasNext) (pc := 19) dJ15_hasNext_19 rfl rfl H
theorem e_J15_hasNext {E : pw_E} {d : Nat} {w : pw_W} {Post : pw_R → pw_W → Prop} (v0 : Option Nat) (H : pw_Wp E m_J15_hasNext d 0 [some (va_rf v0)] [] w Post) : pw_Cl E m_J15_hasNext d [va_rf v0] w Post := pw_meth (by decide) rfl (pw_e1 (pw_cat_rf _) (pw_e0 (n := 0))) H
theorem s_J15_init_0 {E : pw_E} {d : Nat} {w : pw_W} {Post : pw_R → pw_W → Prop} (a0 : Nat) (v1 : Option Nat) (H : f_put E w (some a0) 19 3 (va_rf v1) (fun w4 => f_put E w4 (some a0) 19 1 (.int (-1)) (fun w8 => f_getr w8 (some a0) 19 3 (fun x9 => f_geti w8 x9 18 0 (fun x13 => f_put E w8 (some a0) 19 2 (.int x13) (fun w20 => Post (.inl none) w20)))))) : pw_Wp E m_J15_init (d + 1) 0 [some (va_rf (some a0)), some (va_rf v1)] [] w Post := by
  refine r_aload_n (M := m_J15_init) (pc := 0) dJ15_init_0 0 rfl rfl ?_
  refine r_aload_n (M := m_J15_init) (pc := 1) dJ15_init_1 1 rfl rfl ?_
  obtain ⟨a1, fs2, e9, h3, h3b, H⟩ := H; cases e9
  refine r_putF (M := m_J15_init) (pc := 2) dJ15_init_2 "java/util/ArrayList$Itr" 19 3 _ rfl (Nat.le_of_ble_eq_true rfl) q846 (Or.inl rfl) rfl rfl rfl h3 (Nat.le_of_ble_eq_true rfl) h3b (nar_ro _ _) (fit_ro _ _) ?_
  refine r_aload_n (M := m_J15_init) (pc := 5) dJ15_init_5 0 rfl rfl ?_
  refine r_objInit (M := m_J15_init) (pc := 6) dJ15_init_6 q842 q197 q198 (Nat.succ_pos _) (Nat.le_of_ble_eq_true rfl) ?_
  refine r_aload_n (M := m_J15_init) (pc := 9) dJ15_init_9 0 rfl rfl ?_
  refine r_iconst (M := m_J15_init) (pc := 10) dJ15_init_10 (-1) rfl ?_
  obtain ⟨a5, fs6, e9, h7, h7b, H⟩ := H; cases e9
  refine r_put (M := m_J15_init) (pc := 11) dJ15_init_11 "java/util/ArrayList$Itr" 19 1 _ rfl (Nat.le_of_ble_eq_true rfl) q844 (Or.inl rfl) rfl h7 (Nat.le_of_ble_eq_true rfl) h7b rfl rfl ?_
  refine r_aload_n (M := m_J15_init) (pc := 14) dJ15_init_14 0 rfl rfl ?_
  refine r_aload_n (M := m_J15_init) (pc := 15) dJ15_init_15 0 rfl rfl ?_
  obtain ⟨a10, fs11, x9, e9, h12, h12v, H⟩ := H; cases e9
  refine r_get (M := m_J15_init) (pc := 16) dJ15_init_16 "java/util/ArrayList$Itr" 19 3 _ rfl (Nat.le_of_ble_eq_true rfl) q846 (Or.inl rfl) h12 (Nat.le_of_ble_eq_true rfl) h12v ?_
  obtain ⟨a14, fs15, x13, e9, h16, h16v, H⟩ := H; cases e9
  refine r_get (M := m_J15_init) (pc := 19) dJ15_init_19 "java/util/ArrayList" 18 0 _ rfl (Nat.le_of_ble_eq_true rfl) q226 (Or.inr q227) h16 (Nat.le_of_ble_eq_true rfl) h16v ?_
  obtain ⟨a17, fs18, e9, h19, h19b, H⟩ := H; cases e9
  refine r_put (M := m_J15_init) (pc := 22) dJ15_init_22 "java/util/ArrayList$Itr" 19 2 _ rfl (Nat.le_of_ble_eq_true rfl) q845 (Or.inl rfl) rfl h19 (Nat.le_of_ble_eq_true rfl) h19b rfl rfl ?_
  exact r_return (M := m_J15_init) (pc := 25) dJ15_init_25 rfl H
theorem e_J15_init {E : pw_E} {d : Nat} {w : pw_W} {Post : pw_R → pw_W → Prop} (a0 : Nat) (v1 : Option Nat) (H : pw_Wp E m_J15_init d 0 [some (va_rf (some a0)), some (va_rf v1)] [] w Post) : pw_Cl E m_J15_init d [va_rf (some a0), va_rf v1] w Post := pw_meth (by decide) rfl (pw_e1 (pw_cat_rf _) (pw_e1 (pw_cat_rf _) (pw_e0 (n := 0)))) H
theorem s_J15_next_0 {E : pw_E} {d : Nat} {w : pw_W} {Post : pw_R → pw_W → Prop} (v0 : Option Nat) (H : f_V E w v0 19 m_J15_checkForComodification d [] (c_v (fun w1 => f_geti w1 v0 19 0 (fun x5 => f_getr w1 v0 19 3 (fun x9 => f_geti w1 x9 18 2 (fun x13 => (if x5 < x13 then f_getr w1 v0 19 3 (fun x17 => f_getr w1 x17 18 1 (fun x21 => f_len w1 x21 (fun x25 => (if x5 < x25 then f_put E w1 v0 19 0 (.int (x5 + 1)) (fun w33 => f_put E w33 v0 19 1 (.int x5) (fun w37 => f_aldr w37 x21 x5 (fun x38 => Post (.inl (some (va_rf x38))) w37))) else False)))) else False))))))) : pw_Wp E m_J15_next (d + 1) 0 [some (va_rf v0), none, none] [] w Post := by
  refine r_aload_n (M := m_J15_next) (pc := 0) dJ15_next_0 0 rfl rfl ?_
  obtain ⟨a2, us3, e9, h4, H⟩ := H; cases e9
  refine r_V (M := m_J15_next) (pc := 1) dJ15_next_1 m_J15_checkForComodification k_J15_checkForComodification q891 q892 19 _ rfl q893 (av := []) (dy := d) n_J15_checkForComodification h4 rfl (pw_c4 (Nat.le_of_ble_eq_true rfl)) (Nat.le_refl _) (H.mono (pw_nx_v (fun w1 H1 => ?_)))
  replace H := H1; clear H1
  refine r_aload_n (M := m_J15_next) (pc := 4) dJ15_next_4 0 rfl rfl ?_
  obtain ⟨a6, fs7, x5, e9, h8, h8v, H⟩ := H; cases e9
  refine r_get (M := m_J15_next) (pc := 5) dJ15_next_5 "java/util/ArrayList$Itr" 19 0 _ rfl (Nat.le_of_ble_eq_true rfl) q843 (Or.inl rfl) h8 (Nat.le_of_ble_eq_true rfl) h8v ?_
  refine r_istore_n (M := m_J15_next) (pc := 8) dJ15_next_8 1 rfl (Nat.le_of_ble_eq_true rfl) (pw_pre_rf rfl) ?_
  refine r_iload_n (M := m_J15_next) (pc := 9) dJ15_next_9 1 rfl rfl ?_
  refine r_aload_n (M := m_J15_next) (pc := 10) dJ15_next_10 0 rfl rfl ?_
  obtain ⟨a10, fs11, x9, e9, h12, h12v, H⟩ := H; cases e9
  refine r_get (M := m_J15_next) (pc := 11) dJ15_next_11 "java/util/ArrayList$Itr" 19 3 _ rfl (Nat.le_of_ble_eq_true rfl) q846 (Or.inl rfl) h12 (Nat.le_of_ble_eq_true rfl) h12v ?_
  obtain ⟨a14, fs15, x13, e9, h16, h16v, H⟩ := H; cases e9
  refine r_getN (M := m_J15_next) (pc := 14) dJ15_next_14 "java/util/ArrayList" 18 2 _ rfl (Nat.le_of_ble_eq_true rfl) q223 h16 (Nat.le_of_ble_eq_true rfl) h16v ?_
  refine r_icmp_lt (M := m_J15_next) (pc := 17) dJ15_next_17 28 (by decide) (fun hc => ?_) (fun hc => ?_)
  · replace H := f_it H hc
    refine r_aload_n (M := m_J15_next) (pc := 28) dJ15_next_28 0 rfl rfl ?_
    obtain ⟨a18, fs19, x17, e9, h20, h20v, H⟩ := H; cases e9
    refine r_get (M := m_J15_next) (pc := 29) dJ15_next_29 "java/util/ArrayList$Itr" 19 3 _ rfl (Nat.le_of_ble_eq_true rfl) q846 (Or.inl rfl) h20 (Nat.le_of_ble_eq_true rfl) h20v ?_
    obtain ⟨a22, fs23, x21, e9, h24, h24v, H⟩ := H; cases e9
    refine r_get (M := m_J15_next) (pc := 32) dJ15_next_32 "java/util/ArrayList" 18 1 _ rfl (Nat.le_of_ble_eq_true rfl) q222 (Or.inl rfl) h24 (Nat.le_of_ble_eq_true rfl) h24v ?_
    refine r_astore_n (M := m_J15_next) (pc := 35) dJ15_next_35 2 rfl (Nat.le_of_ble_eq_true rfl) rfl ?_
    refine r_iload_n (M := m_J15_next) (pc := 36) dJ15_next_36 1 rfl rfl ?_
    refine r_aload_n (M := m_J15_next) (pc := 37) dJ15_next_37 2 rfl rfl ?_
    obtain ⟨a26, t27, tyt27, vs28, e9, h29, h29t, H⟩ := H; cases e9
    refine r_alen (M := m_J15_next) (pc := 38) dJ15_next_38 t27 tyt27 h29t h29 ?_
    refine r_icmp_lt (M := m_J15_next) (pc := 39) dJ15_next_39 50 (by decide) (fun hc => ?_) (fun hc => ?_)
    · replace H := f_it H hc
      refine r_aload_n (M := m_J15_next) (pc := 50) dJ15_next_50 0 rfl rfl ?_
      refine r_iload_n (M := m_J15_next) (pc := 51) dJ15_next_51 1 rfl rfl ?_
      refine r_iconst (M := m_J15_next) (pc := 52) dJ15_next_52 1 rfl ?_
      refine r_iadd (M := m_J15_next) (pc := 53) dJ15_next_53 ?_
      obtain ⟨a30, fs31, e9, h32, h32b, H⟩ := H; cases e9
      refine r_put (M := m_J15_next) (pc := 54) dJ15_next_54 "java/util/ArrayList$Itr" 19 0 _ rfl (Nat.le_of_ble_eq_true rfl) q843 (Or.inl rfl) rfl h32 (Nat.le_of_ble_eq_true rfl) h32b rfl rfl ?_
      refine r_aload_n (M := m_J15_next) (pc := 57) dJ15_next_57 2 rfl rfl ?_
      refine r_aload_n (M := m_J15_next) (pc := 58) dJ15_next_58 0 rfl rfl ?_
      refine r_iload_n (M := m_J15_next) (pc := 59) dJ15_next_59 1 rfl rfl ?_
      refine r_dup_x1 (M := m_J15_next) (pc := 60) dJ15_next_60 rfl (pw_cat_rf _) ?_
      obtain ⟨a34, fs35, e9, h36, h36b, H⟩ := H; cases e9
      refine r_put (M := m_J15_next) (pc := 61) dJ15_next_61 "java/util/ArrayList$Itr" 19 1 _ rfl (Nat.le_of_ble_eq_true rfl) q844 (Or.inl rfl) rfl h36 (Nat.le_of_ble_eq_true rfl) h36b rfl rfl ?_
      obtain ⟨a39, t40, tyt40, vs41, x38, e9, h42, h42t, h42r, h420, h42v, H⟩ := H; cases e9
      refine r_aaload (M := m_J15_next) (pc := 64) dJ15_next_64 t40 tyt40 h42t h42r h42 h420 h42v ?_
      exact r_areturn (M := m_J15_next) (pc := 65) dJ15_next_65 rfl (by simp) H
    · replace H := f_if H hc
      exact H.elim
  · replace H := f_if H hc
    exact H.elim
theorem e_J15_next {E : pw_E} {d : Nat} {w : pw_W} {Post : pw_R → pw_W → Prop} (v0 : Option Nat) (H : pw_Wp E m_J15_next d 0 [some (va_rf v0), none, none] [] w Post) : pw_Cl E m_J15_next d [va_rf v0] w Post := pw_meth (by decide) rfl (pw_e1 (pw_cat_rf _) (pw_e0 (n := 2))) H
theorem s_J17_init_0 {E : pw_E} {d : Nat} {w : pw_W} {Post : pw_R → pw_W → Prop} (a0 : Nat) (H : Post (.inl none) w) : pw_Wp E m_J17_init (d + 1) 0 [some (va_rf (some a0))] [] w Post := by
  refine r_aload_n (M := m_J17_init) (pc := 0) dJ17_init_0 0 rfl rfl ?_
  refine r_objInit (M := m_J17_init) (pc := 1) dJ17_init_1 q1348 q197 q198 (Nat.succ_pos _) (Nat.le_of_ble_eq_true rfl) ?_
  exact r_return (M := m_J17_init) (pc := 4) dJ17_init_4 rfl H
theorem e_J17_init {E : pw_E} {d : Nat} {w : pw_W} {Post : pw_R → pw_W → Prop} (a0 : Nat) (H : pw_Wp E m_J17_init d 0 [some (va_rf (some a0))] [] w Post) : pw_Cl E m_J17_init d [va_rf (some a0)] w Post := pw_meth (by decide) rfl (pw_e1 (pw_cat_rf _) (pw_e0 (n := 0))) H
theorem s_J18_addEntry_0 {E : pw_E} {d : Nat} {w : pw_W} {Post : pw_R → pw_W → Prop} (v0 : Option Nat) (v1 : Option Nat) (v2 : Option Nat) (v3 : Option Nat) (v4 : Bool) (H : (fun w1 => pw_Cl E m_J24_init d (va_rf (some w.2.1) :: [va_rf v1, va_rf v2, va_rf v3]) w1 (c_v (fun w2 => (if (bI v4) = 0 then f_put E w2 v3 23 3 (va_rf (some w.2.1)) (fun w6 => f_V E w6 v0 22 m_J18_fixAfterInsertion d [va_rf (some w.2.1)] (c_v (fun w7 => f_geti w7 v0 22 4 (fun x11 => f_put E w7 v0 22 4 (.int (x11 + 1)) (fun w18 => f_geti w18 v0 22 5 (fun x19 => f_put E w18 v0 22 5 (.int (x19 + 1)) (fun w26 => Post (.inl none) w26))))))) else f_put E w2 v3 23 2 (va_rf (some w.2.1)) (fun w30 => f_V E w30 v0 22 m_J18_fixAfterInsertion d [va_rf (some w.2.1)] (c_v (fun w31 => f_geti w31 v0 22 4 (fun x35 => f_put E w31 v0 22 4 (.int (x35 + 1)) (fun w42 => f_geti w42 v0 22 5 (fun x43 => f_put E w42 v0 22 5 (.int (x43 + 1)) (fun w50 => Post (.inl none) w50))))))))))) (pw_new w (23, [va_rf none, va_rf none, va_rf none, va_rf none, va_rf none, .int 0]) 6)) : pw_Wp E m_J18_addEntry (d + 1) 0 [some (va_rf v0), some (va_rf v1), some (va_rf v2), some (va_rf v3), some (.int (bI v4)), none] [] w Post := by
  refine r_new (M := m_J18_addEntry) (pc := 0) dJ18_addEntry_0 23 _ rfl (Nat.le_of_ble_eq_true rfl) q1661 q1662 q175 [va_rf none, va_rf none, va_rf none, va_rf none, va_rf none, .int 0] rfl 6 rfl ?_
  refine r_dup (M := m_J18_addEntry) (pc := 3) dJ18_addEntry_3 (pw_cat_rf _) ?_
  refine r_aload_n (M := m_J18_addEntry) (pc := 4) dJ18_addEntry_4 1 rfl rfl ?_
  refine r_aload_n (M := m_J18_addEntry) (pc := 5) dJ18_addEntry_5 2 rfl rfl ?_
  refine r_aload_n (M := m_J18_addEntry) (pc := 6) dJ18_addEntry_6 3 rfl rfl ?_
  refine r_I (M := m_J18_addEntry) (pc := 7) dJ18_addEntry_7 m_J24_init k_J24_init rfl rfl q1663 q1664 (av := [va_rf _, va_rf _, va_rf _]) (dy := d) n_J24_init rfl (pw_c4 (Nat.le_of_ble_eq_true rfl)) (Nat.le_refl _) (H.mono (pw_nx_v (fun w2 H1 => ?_)))
  replace H := H1; clear H1
  refine r_astore (M := m_J18_addEntry) (pc := 10) dJ18_addEntry_10 (Nat.le_of_ble_eq_true rfl) rfl ?_
  refine r_iload (M := m_J18_addEntry) (pc := 12) dJ18_addEntry_12 rfl ?_
  refine r_if_eq (M := m_J18_addEntry) (pc := 14) dJ18_addEntry_14 26 (by decide) (fun hc => ?_) (fun hc => ?_)
  · replace H := f_it H hc
    refine r_aload_n (M := m_J18_addEntry) (pc := 26) dJ18_addEntry_26 3 rfl rfl ?_
    refine r_aload (M := m_J18_addEntry) (pc := 27) dJ18_addEntry_27 rfl ?_
    obtain ⟨a3, fs4, e9, h5, h5b, H⟩ := H; cases e9
    refine r_put (M := m_J18_addEntry) (pc := 29) dJ18_addEntry_29 "java/util/TreeMap$Entry" 23 3 _ rfl (Nat.le_of_ble_eq_true rfl) q1673 (Or.inl rfl) rfl h5 (Nat.le_of_ble_eq_true rfl) h5b (nar_ro _ _) (fit_ro _ _) ?_
    refine r_aload_n (M := m_J18_addEntry) (pc := 32) dJ18_addEntry_32 0 rfl rfl ?_
    refine r_aload (M := m_J18_addEntry) (pc := 33) dJ18_addEntry_33 rfl ?_
    obtain ⟨a8, us9, e9, h10, H⟩ := H; cases e9
    refine r_V (M := m_J18_addEntry) (pc := 35) dJ18_addEntry_35 m_J18_fixAfterInsertion k_J18_fixAfterInsertion q1695 q1697 22 _ rfl qs22 (av := [va_rf _]) (dy := d) n_J18_fixAfterInsertion h10 rfl (pw_c4 (Nat.le_of_ble_eq_true rfl)) (Nat.le_refl _) (H.mono (pw_nx_v (fun w7 H1 => ?_)))
    replace H := H1; clear H1
    refine r_aload_n (M := m_J18_addEntry) (pc := 38) dJ18_addEntry_38 0 rfl rfl ?_
    refine r_dup (M := m_J18_addEntry) (pc := 39) dJ18_addEntry_39 (pw_cat_rf _) ?_
    obtain ⟨a12, fs13, x11, e9, h14, h14v, H⟩ := H; cases e9
    refine r_get (M := m_J18_addEntry) (pc := 40) dJ18_addEntry_40 "java/util/TreeMap" 22 4 _ rfl (Nat.le_of_ble_eq_true rfl) q1351 (Or.inl rfl) h14 (Nat.le_of_ble_eq_true rfl) h14v ?_
    refine r_iconst (M := m_J18_addEntry) (pc := 43) dJ18_addEntry_43 1 rfl ?_
    refine r_iadd (M := m_J18_addEntry) (pc := 44) dJ18_addEntry_44 ?_
    obtain ⟨a15, fs16, e9, h17, h17b, H⟩ := H; cases e9
    refine r_put (M := m_J18_addEntry) (pc := 45) dJ18_addEntry_45 "java/util/TreeMap" 22 4 _ rfl (Nat.le_of_ble_eq_true rfl) q1351 (Or.inl rfl) rfl h17 (Nat.le_of_ble_eq_true rfl) h17b rfl rfl ?_
    refine r_aload_n (M := m_J18_addEntry) (pc := 48) dJ18_addEntry_48 0 rfl rfl ?_
    refine r_dup (M := m_J18_addEntry) (pc := 49) dJ18_addEntry_49 (pw_cat_rf _) ?_
    obtain ⟨a20, fs21, x19, e9, h22, h22v, H⟩ := H; cases e9
    refine r_get (M := m_J18_addEntry) (pc := 50) dJ18_addEntry_50 "java/util/TreeMap" 22 5 _ rfl (Nat.le_of_ble_eq_true rfl) q1352 (Or.inl rfl) h22 (Nat.le_of_ble_eq_true rfl) h22v ?_
    refine r_iconst (M := m_J18_addEntry) (pc := 53) dJ18_addEntry_53 1 rfl ?_
    refine r_iadd (M := m_J18_addEntry) (pc := 54) dJ18_addEntry_54 ?_
    obtain ⟨a23, fs24, e9, h25, h25b, H⟩ := H; cases e9
    refine r_put (M := m_J18_addEntry) (pc := 55) dJ18_addEntry_55 "java/util/TreeMap" 22 5 _ rfl (Nat.le_of_ble_eq_true rfl) q1352 (Or.inl rfl) rfl h25 (Nat.le_of_ble_eq_true rfl) h25b rfl rfl ?_
    exact r_return (M := m_J18_addEntry) (pc := 58) dJ18_addEntry_58 rfl H
  · replace H := f_if H hc
    refine r_aload_n (M := m_J18_addEntry) (pc := 17) dJ18_addEntry_17 3 rfl rfl ?_
    refine r_aload (M := m_J18_addEntry) (pc := 18) dJ18_addEntry_18 rfl ?_
    obtain ⟨a27, fs28, e9, h29, h29b, H⟩ := H; cases e9
    refine r_put (M := m_J18_addEntry) (pc := 20) dJ18_addEntry_20 "java/util/TreeMap$Entry" 23 2 _ rfl (Nat.le_of_ble_eq_true rfl) q1672 (Or.inl rfl) rfl h29 (Nat.le_of_ble_eq_true rfl) h29b (nar_ro _ _) (fit_ro _ _) ?_
    refine r_goto (M := m_J18_addEntry) (pc := 23) dJ18_addEntry_23 32 (by decide) ?_
    refine r_aload_n (M := m_J18_addEntry) (pc := 32) dJ18_addEntry_32 0 rfl rfl ?_
    refine r_aload (M := m_J18_addEntry) (pc := 33) dJ18_addEntry_33 rfl ?_
    obtain ⟨a32, us33, e9, h34, H⟩ := H; cases e9
    refine r_V (M := m_J18_addEntry) (pc := 35) dJ18_addEntry_35 m_J18_fixAfterInsertion k_J18_fixAfterInsertion q1695 q1697 22 _ rfl qs22 (av := [va_rf _]) (dy := d) n_J18_fixAfterInsertion h34 rfl (pw_c4 (Nat.le_of_ble_eq_true rfl)) (Nat.le_refl _) (H.mono (pw_nx_v (fun w31 H1 => ?_)))
    replace H := H1; clear H1
    refine r_aload_n (M := m_J18_addEntry) (pc := 38) dJ18_addEntry_38 0 rfl rfl ?_
    refine r_dup (M := m_J18_addEntry) (pc := 39) dJ18_addEntry_39 (pw_cat_rf _) ?_
    obtain ⟨a36, fs37, x35, e9, h38, h38v, H⟩ := H; cases e9
    refine r_get (M := m_J18_addEntry) (pc := 40) dJ18_addEntry_40 "java/util/TreeMap" 22 4 _ rfl (Nat.le_of_ble_eq_true rfl) q1351 (Or.inl rfl) h38 (Nat.le_of_ble_eq_true rfl) h38v ?_
    refine r_iconst (M := m_J18_addEntry) (pc := 43) dJ18_addEntry_43 1 rfl ?_
    refine r_iadd (M := m_J18_addEntry) (pc := 44) dJ18_addEntry_44 ?_
    obtain ⟨a39, fs40, e9, h41, h41b, H⟩ := H; cases e9
    refine r_put (M := m_J18_addEntry) (pc := 45) dJ18_addEntry_45 "java/util/TreeMap" 22 4 _ rfl (Nat.le_of_ble_eq_true rfl) q1351 (Or.inl rfl) rfl h41 (Nat.le_of_ble_eq_true rfl) h41b rfl rfl ?_
    refine r_aload_n (M := m_J18_addEntry) (pc := 48) dJ18_addEntry_48 0 rfl rfl ?_
    refine r_dup (M := m_J18_addEntry) (pc := 49) dJ18_addEntry_49 (pw_cat_rf _) ?_
    obtain ⟨a44, fs45, x43, e9, h46, h46v, H⟩ := H; cases e9
    refine r_get (M := m_J18_addEntry) (pc := 50) dJ18_addEntry_50 "java/util/TreeMap" 22 5 _ rfl (Nat.le_of_ble_eq_true rfl) q1352 (Or.inl rfl) h46 (Nat.le_of_ble_eq_true rfl) h46v ?_
    refine r_iconst (M := m_J18_addEntry) (pc := 53) dJ18_addEntry_53 1 rfl ?_
    refine r_iadd (M := m_J18_addEntry) (pc := 54) dJ18_addEntry_54 ?_
    obtain ⟨a47, fs48, e9, h49, h49b, H⟩ := H; cases e9
    refine r_put (M := m_J18_addEntry) (pc := 55) dJ18_addEntry_55 "java/util/TreeMap" 22 5 _ rfl (Nat.le_of_ble_eq_true rfl) q1352 (Or.inl rfl) rfl h49 (Nat.le_of_ble_eq_true rfl) h49b rfl rfl ?_
    exact r_return (M := m_J18_addEntry) (pc := 58) dJ18_addEntry_58 rfl H
theorem e_J18_addEntry {E : pw_E} {d : Nat} {w : pw_W} {Post : pw_R → pw_W → Prop} (v0 : Option Nat) (v1 : Option Nat) (v2 : Option Nat) (v3 : Option Nat) (v4 : Bool) (H : pw_Wp E m_J18_addEntry d 0 [some (va_rf v0), some (va_rf v1), some (va_rf v2), some (va_rf v3), some (.int (bI v4)), none] [] w Post) : pw_Cl E m_J18_addEntry d [va_rf v0, va_rf v1, va_rf v2, va_rf v3, .int (bI v4)] w Post := pw_meth (by decide) rfl (pw_e1 (pw_cat_rf _) (pw_e1 (pw_cat_rf _) (pw_e1 (pw_cat_rf _) (pw_e1 (pw_cat_rf _) (pw_e1 rfl (pw_e0 (n := 1))))))) H
theorem s_J18_addEntryToEmptyMap_0 {E : pw_E} {d : Nat} {w : pw_W} {Post : pw_R → pw_W → Prop} (v0 : Option Nat) (v1 : Option Nat) (v2 : Option Nat) (H : f_V E w v0 22 m_J18_compare d [va_rf v1, va_rf v1] (c_i (fun x2 w1 => (fun w6 => pw_Cl E m_J24_init d (va_rf (some w1.2.1) :: [va_rf v1, va_rf v2, va_rf none]) w6 (c_v (fun w7 => f_put E w7 v0 22 3 (va_rf (some w1.2.1)) (fun w11 => f_put E w11 v0 22 4 (.int 1) (fun w15 => f_geti w15 v0 22 5 (fun x16 => f_put E w15 v0 22 5 (.int (x16 + 1)) (fun w23 => Post (.inl none) w23))))))) (pw_new w1 (23, [va_rf none, va_rf none, va_rf none, va_rf none, va_rf none, .int 0]) 6)))) : pw_Wp E m_J18_addEntryToEmptyMap (d + 1) 0 [some (va_rf v0), some (va_rf v1), some (va_rf v2)] [] w Post := by
  refine r_aload_n (M := m_J18_addEntryToEmptyMap) (pc := 0) dJ18_addEntryToEmptyMap_0 0 rfl rfl ?_
  refine r_aload_n (M := m_J18_addEntryToEmptyMap) (pc := 1) dJ18_addEntryToEmptyMap_1 1 rfl rfl ?_
  refine r_aload_n (M := m_J18_addEntryToEmptyMap) (pc := 2) dJ18_addEntryToEmptyMap_2 1 rfl rfl ?_
  obtain ⟨a3, us4, e9, h5, H⟩ := H; cases e9
  refine r_V (M := m_J18_addEntryToEmptyMap) (pc := 3) dJ18_addEntryToEmptyMap_3 m_J18_compare k_J18_compare q1657 q1658 22 _ rfl q1659 (av := [va_rf _, va_rf _]) (dy := d) n_J18_compare h5 rfl (pw_c4 (Nat.le_of_ble_eq_true rfl)) (Nat.le_refl _) (H.mono (pw_nx_i (fun x2 w1 H1 => ?_)))
  replace H := H1; clear H1
  refine r_pop (M := m_J18_addEntryToEmptyMap) (pc := 6) dJ18_addEntryToEmptyMap_6 rfl ?_
  refine r_aload_n (M := m_J18_addEntryToEmptyMap) (pc := 7) dJ18_addEntryToEmptyMap_7 0 rfl rfl ?_
  refine r_new (M := m_J18_addEntryToEmptyMap) (pc := 8) dJ18_addEntryToEmptyMap_8 23 _ rfl (Nat.le_of_ble_eq_true rfl) q1661 q1662 q175 [va_rf none, va_rf none, va_rf none, va_rf none, va_rf none, .int 0] rfl 6 rfl ?_
  refine r_dup (M := m_J18_addEntryToEmptyMap) (pc := 11) dJ18_addEntryToEmptyMap_11 (pw_cat_rf _) ?_
  refine r_aload_n (M := m_J18_addEntryToEmptyMap) (pc := 12) dJ18_addEntryToEmptyMap_12 1 rfl rfl ?_
  refine r_aload_n (M := m_J18_addEntryToEmptyMap) (pc := 13) dJ18_addEntryToEmptyMap_13 2 rfl rfl ?_
  refine r_null (M := m_J18_addEntryToEmptyMap) (pc := 14) dJ18_addEntryToEmptyMap_14 ?_
  refine r_I (M := m_J18_addEntryToEmptyMap) (pc := 15) dJ18_addEntryToEmptyMap_15 m_J24_init k_J24_init rfl rfl q1663 q1664 (av := [va_rf _, va_rf _, va_rf _]) (dy := d) n_J24_init rfl (pw_c4 (Nat.le_of_ble_eq_true rfl)) (Nat.le_refl _) (H.mono (pw_nx_v (fun w7 H1 => ?_)))
  replace H := H1; clear H1
  obtain ⟨a8, fs9, e9, h10, h10b, H⟩ := H; cases e9
  refine r_put (M := m_J18_addEntryToEmptyMap) (pc := 18) dJ18_addEntryToEmptyMap_18 "java/util/TreeMap" 22 3 _ rfl (Nat.le_of_ble_eq_true rfl) q1350 (Or.inl rfl) rfl h10 (Nat.le_of_ble_eq_true rfl) h10b (nar_ro _ _) (fit_ro _ _) ?_
  refine r_aload_n (M := m_J18_addEntryToEmptyMap) (pc := 21) dJ18_addEntryToEmptyMap_21 0 rfl rfl ?_
  refine r_iconst (M := m_J18_addEntryToEmptyMap) (pc := 22) dJ18_addEntryToEmptyMap_22 1 rfl ?_
  obtain ⟨a12, fs13, e9, h14, h14b, H⟩ := H; cases e9
  refine r_put (M := m_J18_addEntryToEmptyMap) (pc := 23) dJ18_addEntryToEmptyMap_23 "java/util/TreeMap" 22 4 _ rfl (Nat.le_of_ble_eq_true rfl) q1351 (Or.inl rfl) rfl h14 (Nat.le_of_ble_eq_true rfl) h14b rfl rfl ?_
  refine r_aload_n (M := m_J18_addEntryToEmptyMap) (pc := 26) dJ18_addEntryToEmptyMap_26 0 rfl rfl ?_
  refine r_dup (M := m_J18_addEntryToEmptyMap) (pc := 27) dJ18_addEntryToEmptyMap_27 (pw_cat_rf _) ?_
  obtain ⟨a17, fs18, x16, e9, h19, h19v, H⟩ := H; cases e9
  refine r_get (M := m_J18_addEntryToEmptyMap) (pc := 28) dJ18_addEntryToEmptyMap_28 "java/util/TreeMap" 22 5 _ rfl (Nat.le_of_ble_eq_true rfl) q1352 (Or.inl rfl) h19 (Nat.le_of_ble_eq_true rfl) h19v ?_
  refine r_iconst (M := m_J18_addEntryToEmptyMap) (pc := 31) dJ18_addEntryToEmptyMap_31 1 rfl ?_
  refine r_iadd (M := m_J18_addEntryToEmptyMap) (pc := 32) dJ18_addEntryToEmptyMap_32 ?_
  obtain ⟨a20, fs21, e9, h22, h22b, H⟩ := H; cases e9
  refine r_put (M := m_J18_addEntryToEmptyMap) (pc := 33) dJ18_addEntryToEmptyMap_33 "java/util/TreeMap" 22 5 _ rfl (Nat.le_of_ble_eq_true rfl) q1352 (Or.inl rfl) rfl h22 (Nat.le_of_ble_eq_true rfl) h22b rfl rfl ?_
  exact r_return (M := m_J18_addEntryToEmptyMap) (pc := 36) dJ18_addEntryToEmptyMap_36 rfl H
theorem e_J18_addEntryToEmptyMap {E : pw_E} {d : Nat} {w : pw_W} {Post : pw_R → pw_W → Prop} (v0 : Option Nat) (v1 : Option Nat) (v2 : Option Nat) (H : pw_Wp E m_J18_addEntryToEmptyMap d 0 [some (va_rf v0), some (va_rf v1), some (va_rf v2)] [] w Post) : pw_Cl E m_J18_addEntryToEmptyMap d [va_rf v0, va_rf v1, va_rf v2] w Post := pw_meth (by decide) rfl (pw_e1 (pw_cat_rf _) (pw_e1 (pw_cat_rf _) (pw_e1 (pw_cat_rf _) (pw_e0 (n := 0))))) H
theorem s_J18_colorOf_0 {E : pw_E} {d : Nat} {w : pw_W} {Post : pw_R → pw_W → Prop} (v0 : Option Nat) (H : (if v0 = none then Post (.inl (some (.int 1))) w else f_geti w v0 23 5 (fun x1 => (narrow .boolean (.int x1) = .int x1 ∧ Post (.inl (some (.int x1))) w)))) : pw_Wp E m_J18_colorOf (d + 1) 0 [some (va_rf v0)] [] w Post := by
  refine r_aload_n (M := m_J18_colorOf) (pc := 0) dJ18_colorOf_0 0 rfl rfl ?_
  refine r_ifnonnull (M := m_J18_colorOf) (pc := 1) dJ18_colorOf_1 8 (by decide) (fun hc => ?_) (fun hc => ?_)
  · replace H := f_if H hc
    refine r_aload_n (M := m_J18_colorOf) (pc := 8) dJ18_colorOf_8 0 rfl rfl ?_
    obtain ⟨a2, fs3, x1, e9, h4, h4v, H⟩ := H; cases e9
    refine r_get (M := m_J18_colorOf) (pc := 9) dJ18_colorOf_9 "java/util/TreeMap$Entry" 23 5 _ rfl (Nat.le_of_ble_eq_true rfl) q1677 (Or.inl rfl) h4 (Nat.le_of_ble_eq_true rfl) h4v ?_
    exact r_zreturn (M := m_J18_colorOf) (pc := 12) dJ18_colorOf_12 rfl H.1 H.2
  · replace H := f_it H hc
    refine r_iconst (M := m_J18_colorOf) (pc := 4) dJ18_colorOf_4 1 rfl ?_
    refine r_goto (M := m_J18_colorOf) (pc := 5) dJ18_colorOf_5 12 (by decide) ?_
    exact r_zreturn (M := m_J18_colorOf) (pc := 12) dJ18_colorOf_12 rfl rfl H
theorem e_J18_colorOf {E : pw_E} {d : Nat} {w : pw_W} {Post : pw_R → pw_W → Prop} (v0 : Option Nat) (H : pw_Wp E m_J18_colorOf d 0 [some (va_rf v0)] [] w Post) : pw_Cl E m_J18_colorOf d [va_rf v0] w Post := pw_meth (by decide) rfl (pw_e1 (pw_cat_rf _) (pw_e0 (n := 0))) H
theorem s_J18_compare_0 {E : pw_E} {d : Nat} {w : pw_W} {Post : pw_R → pw_W → Prop} (v0 : Option Nat) (v1 : Option Nat) (v2 : Option Nat) (H : f_getr w v0 22 2 (fun x1 => (if x1 = none then f_cast w v1 "java/lang/Comparable" (f_VA E w v1 [(21, m_J6_compareTo), (28, m_J21_compareTo)] d [va_rf v2] (c_i (fun x15 w14 => Post (.inl (some (.int x15))) w14))) else f_getr w v0 22 2 (fun x5 => f_V E w x5 14 m_X15_compare d [va_rf v1, va_rf v2] (c_i (fun x10 w9 => Post (.inl (some (.int x10))) w9)))))) : pw_Wp E m_J18_compare (d + 1) 0 [some (va_rf v0), some (va_rf v1), some (va_rf v2)] [] w Post := by
  refine r_aload_n (M := m_J18_compare) (pc := 0) dJ18_compare_0 0 rfl rfl ?_
  obtain ⟨a2, fs3, x1, e9, h4, h4v, H⟩ := H; cases e9
  refine r_get (M := m_J18_compare) (pc := 1) dJ18_compare_1 "java/util/TreeMap" 22 2 _ rfl (Nat.le_of_ble_eq_true rfl) q1349 (Or.inl rfl) h4 (Nat.le_of_ble_eq_true rfl) h4v ?_
  refine r_ifnonnull (M := m_J18_compare) (pc := 4) dJ18_compare_4 20 (by decide) (fun hc => ?_) (fun hc => ?_)
  · replace H := f_if H hc
    refine r_aload_n (M := m_J18_compare) (pc := 20) dJ18_compare_20 0 rfl rfl ?_
    obtain ⟨a6, fs7, x5, e9, h8, h8v, H⟩ := H; cases e9
    refine r_get (M := m_J18_compare) (pc := 21) dJ18_compare_21 "java/util/TreeMap" 22 2 _ rfl (Nat.le_of_ble_eq_true rfl) q1349 (Or.inl rfl) h8 (Nat.le_of_ble_eq_true rfl) h8v ?_
    refine r_aload_n (M := m_J18_compare) (pc := 24) dJ18_compare_24 1 rfl rfl ?_
    refine r_aload_n (M := m_J18_compare) (pc := 25) dJ18_compare_25 2 rfl rfl ?_
    obtain ⟨a11, us12, e9, h13, H⟩ := H; cases e9
    refine r_F (M := m_J18_compare) (pc := 26) dJ18_compare_26 ⟨"java/util/Comparator", "compare", "(Ljava/lang/Object;Ljava/lang/Object;)I"⟩ m_X15_compare k_X15_compare q1388 q1394 14 _ rfl q1392 (pw_fwm 7 rfl) (av := [va_rf _, va_rf _]) (dy := d) (pw_nyt (n := 2) (by decide +kernel) (by decide +kernel)) h13 rfl (pw_c4 (Nat.le_of_ble_eq_true rfl)) (Nat.le_refl _) (H.mono (pw_nx_i (fun x10 w9 H1 => ?_)))
    replace H := H1; clear H1
    exact r_ireturn (M := m_J18_compare) (pc := 31) dJ18_compare_31 rfl H
  · replace H := f_it H hc
    refine r_aload_n (M := m_J18_compare) (pc := 7) dJ18_compare_7 1 rfl rfl ?_
    obtain ⟨hk, H⟩ := H
    refine r_cast (M := m_J18_compare) (pc := 8) dJ18_compare_8 "java/lang/Comparable" q1409 hk ?_
    refine r_aload_n (M := m_J18_compare) (pc := 11) dJ18_compare_11 2 rfl rfl ?_
    obtain ⟨a16, us17, k19, M9, e9, h18, hk9, H⟩ := H; cases e9
    refine r_alt2 hk9 H (nx := pw_nx E m_J18_compare (d + 1) 12 5 _ _ Post) (pw_nx_i (fun x15 w14 H1 => ?_)) (fun e9 H => by subst e9; exact r_F (M := m_J18_compare) (pc := 12) dJ18_compare_12 ⟨"java/lang/Comparable", "compareTo", "(Ljava/lang/Object;)I"⟩ m_J6_compareTo k_J6_compareTo q1411 q1461 21 _ rfl q1459 (pw_fwm 5 rfl) (av := [va_rf _]) (dy := d) (pw_nyt (n := 1) (by decide +kernel) (by decide +kernel)) h18 rfl (pw_c4 (Nat.le_of_ble_eq_true rfl)) (Nat.le_refl _) H) (fun e9 H => by subst e9; exact r_F (M := m_J18_compare) (pc := 12) dJ18_compare_12 ⟨"java/lang/Comparable", "compareTo", "(Ljava/lang/Object;)I"⟩ m_J21_compareTo k_J21_compareTo q1411 q1448 28 _ rfl q1446 (pw_fwm 6 rfl) (av := [va_rf _]) (dy := d) (pw_nyt (n := 1) (by decide +kernel) (by decide +kernel)) h18 rfl (pw_c4 (Nat.le_of_ble_eq_true rfl)) (Nat.le_refl _) H)
    replace H := H1; clear H1
    refine r_goto (M := m_J18_compare) (pc := 17) dJ18_compare_17 31 (by decide) ?_
    exact r_ireturn (M := m_J18_compare) (pc := 31) dJ18_compare_31 rfl H
theorem e_J18_compare {E : pw_E} {d : Nat} {w : pw_W} {Post : pw_R → pw_W → Prop} (v0 : Option Nat) (v1 : Option Nat) (v2 : Option Nat) (H : pw_Wp E m_J18_compare d 0 [some (va_rf v0), some (va_rf v1), some (va_rf v2)] [] w Post) : pw_Cl E m_J18_compare d [va_rf v0, va_rf v1, va_rf v2] w Post := pw_meth (by decide) rfl (pw_e1 (pw_cat_rf _) (pw_e1 (pw_cat_rf _) (pw_e1 (pw_cat_rf _) (pw_e0 (n := 0))))) H
theorem s_J18_fixAfterInsertion_0 {E : pw_E} {d : Nat} {w : pw_W} {Post : pw_R → pw_W → Prop} (v0 : Option Nat) (v1 : Option Nat) (H : f_put E w v1 23 5 (.int 0) (fun w4 => pw_Wp E m_J18_fixAfterInsertion (d + 1) 5 [some (va_rf v0), some (va_rf v1), none] [] w4 Post)) : pw_Wp E m_J18_fixAfterInsertion (d + 1) 0 [some (va_rf v0), some (va_rf v1), none] [] w Post := by
  refine r_aload_n (M := m_J18_fixAfterInsertion) (pc := 0) dJ18_fixAfterInsertion_0 1 rfl rfl ?_
  refine r_iconst (M := m_J18_fixAfterInsertion) (pc := 1) dJ18_fixAfterInsertion_1 0 rfl ?_
  obtain ⟨a1, fs2, e9, h3, h3b, H⟩ := H; cases e9
  refine r_put (M := m_J18_fixAfterInsertion) (pc := 2) dJ18_fixAfterInsertion_2 "java/util/TreeMap$Entry" 23 5 _ rfl (Nat.le_of_ble_eq_true rfl) q1677 (Or.inl rfl) rfl h3 (Nat.le_of_ble_eq_true rfl) h3b rfl rfl ?_
  exact pw_weak (le_s (le_s (le_n le_0))) H
theorem s_J18_fixAfterInsertion_5 {E : pw_E} {d : Nat} {w : pw_W} {Post : pw_R → pw_W → Prop} (v0 : Option Nat) (v1 : Option Nat) (H : (if v1 = none then f_getr w v0 22 3 (fun x1 => f_put E w x1 23 5 (.int 1) (fun w8 => Post (.inl none) w8)) else f_getr w v0 22 3 (fun x9 => (if v1 = x9 then f_getr w v0 22 3 (fun x13 => f_put E w x13 23 5 (.int 1) (fun w20 => Post (.inl none) w20)) else f_getr w v1 23 4 (fun x21 => f_geti w x21 23 5 (fun x25 => (if x25 = 0 then pw_Cl E m_J18_parentOf d [va_rf v1] w (c_r (fun o38 w37 => pw_Cl E m_J18_parentOf d [va_rf v1] w37 (c_r (fun o40 w39 => pw_Cl E m_J18_parentOf d [va_rf o40] w39 (c_r (fun o42 w41 => pw_Cl E m_J18_leftOf d [va_rf o42] w41 (c_r (fun o44 w43 => (if o38 = o44 then pw_Cl E m_J18_parentOf d [va_rf v1] w43 (c_r (fun o109 w108 => pw_Cl E m_J18_parentOf d [va_rf o109] w108 (c_r (fun o111 w110 => pw_Cl E m_J18_rightOf d [va_rf o111] w110 (c_r (fun o113 w112 => pw_Cl E m_J18_colorOf d [va_rf o113] w112 (c_z (fun b115 w114 => (if (bI b115) = 0 then pw_Cl E m_J18_parentOf d [va_rf v1] w114 (c_r (fun o127 w126 => pw_Cl E m_J18_setColor d [va_rf o127, .int 1] w126 (c_v (fun w128 => pw_Cl E m_J18_setColor d [va_rf o113, .int 1] w128 (c_v (fun w129 => pw_Cl E m_J18_parentOf d [va_rf v1] w129 (c_r (fun o131 w130 => pw_Cl E m_J18_parentOf d [va_rf o131] w130 (c_r (fun o133 w132 => pw_Cl E m_J18_setColor d [va_rf o133, .int 0] w132 (c_v (fun w134 => pw_Cl E m_J18_parentOf d [va_rf v1] w134 (c_r (fun o136 w135 => pw_Cl E m_J18_parentOf d [va_rf o136] w135 (c_r (fun o138 w137 => pw_Wp E m_J18_fixAfterInsertion (d + 1) 5 [some (va_rf v0), some (va_rf o138), none] [] w137 Post)))))))))))))))) else pw_Cl E m_J18_parentOf d [va_rf v1] w114 (c_r (fun o117 w116 => pw_Cl E m_J18_rightOf d [va_rf o117] w116 (c_r (fun o119 w118 => (if v1 = o119 then pw_Cl E m_J18_parentOf d [va_rf v1] w118 (c_r (fun o121 w120 => f_V E w120 v0 22 m_J18_rotateLeft d [va_rf o121] (c_v (fun w122 => pw_Wp E m_J18_fixAfterInsertion (d + 1) 118 [some (va_rf v0), some (va_rf o121), none] [] w122 Post)))) else pw_Wp E m_J18_fixAfterInsertion (d + 1) 118 [some (va_rf v0), some (va_rf v1), none] [] w118 Post)))))))))))))) else pw_Cl E m_J18_parentOf d [va_rf v1] w43 (c_r (fun o46 w45 => pw_Cl E m_J18_parentOf d [va_rf o46] w45 (c_r (fun o48 w47 => pw_Cl E m_J18_leftOf d [va_rf o48] w47 (c_r (fun o50 w49 => pw_Cl E m_J18_colorOf d [va_rf o50] w49 (c_z (fun b52 w51 => (if (bI b52) = 0 then pw_Cl E m_J18_parentOf d [va_rf v1] w51 (c_r (fun o96 w95 => pw_Cl E m_J18_setColor d [va_rf o96, .int 1] w95 (c_v (fun w97 => pw_Cl E m_J18_setColor d [va_rf o50, .int 1] w97 (c_v (fun w98 => pw_Cl E m_J18_parentOf d [va_rf v1] w98 (c_r (fun o100 w99 => pw_Cl E m_J18_parentOf d [va_rf o100] w99 (c_r (fun o102 w101 => pw_Cl E m_J18_setColor d [va_rf o102, .int 0] w101 (c_v (fun w103 => pw_Cl E m_J18_parentOf d [va_rf v1] w103 (c_r (fun o105 w104 => pw_Cl E m_J18_parentOf d [va_rf o105] w104 (c_r (fun o107 w106 => pw_Wp E m_J18_fixAfterInsertion (d + 1) 5 [some (va_rf v0), some (va_rf o107), none] [] w106 Post)))))))))))))))) else pw_Cl E m_J18_parentOf d [va_rf v1] w51 (c_r (fun o54 w53 => pw_Cl E m_J18_leftOf d [va_rf o54] w53 (c_r (fun o56 w55 => (if v1 = o56 then pw_Cl E m_J18_parentOf d [va_rf v1] w55 (c_r (fun o74 w73 => f_V E w73 v0 22 m_J18_rotateRight d [va_rf o74] (c_v (fun w75 => pw_Cl E m_J18_parentOf d [va_rf o74] w75 (c_r (fun o80 w79 => pw_Cl E m_J18_setColor d [va_rf o80, .int 1] w79 (c_v (fun w81 => pw_Cl E m_J18_parentOf d [va_rf o74] w81 (c_r (fun o83 w82 => pw_Cl E m_J18_parentOf d [va_rf o83] w82 (c_r (fun o85 w84 => pw_Cl E m_J18_setColor d [va_rf o85, .int 0] w84 (c_v (fun w86 => pw_Cl E m_J18_parentOf d [va_rf o74] w86 (c_r (fun o88 w87 => pw_Cl E m_J18_parentOf d [va_rf o88] w87 (c_r (fun o90 w89 => f_V E w89 v0 22 m_J18_rotateLeft d [va_rf o90] (c_v (fun w91 => pw_Wp E m_J18_fixAfterInsertion (d + 1) 5 [some (va_rf v0), some (va_rf o74), none] [] w91 Post)))))))))))))))))))) else pw_Cl E m_J18_parentOf d [va_rf v1] w55 (c_r (fun o58 w57 => pw_Cl E m_J18_setColor d [va_rf o58, .int 1] w57 (c_v (fun w59 => pw_Cl E m_J18_parentOf d [va_rf v1] w59 (c_r (fun o61 w60 => pw_Cl E m_J18_parentOf d [va_rf o61] w60 (c_r (fun o63 w62 => pw_Cl E m_J18_setColor d [va_rf o63, .int 0] w62 (c_v (fun w64 => pw_Cl E m_J18_parentOf d [va_rf v1] w64 (c_r (fun o66 w65 => pw_Cl E m_J18_parentOf d [va_rf o66] w65 (c_r (fun o68 w67 => f_V E w67 v0 22 m_J18_rotateLeft d [va_rf o68] (c_v (fun w69 => pw_Wp E m_J18_fixAfterInsertion (d + 1) 5 [some (va_rf v0), some (va_rf v1), none] [] w69 Post))))))))))))))))))))))))))))))))))))))) else f_getr w v0 22 3 (fun x29 => f_put E w x29 23 5 (.int 1) (fun w36 => Post (.inl none) w36))))))))) : pw_Wp E m_J18_fixAfterInsertion (d + 1) 5 [some (va_rf v0), some (va_rf v1), none] [] w Post := by
  refine r_aload_n (M := m_J18_fixAfterInsertion) (pc := 5) dJ18_fixAfterInsertion_5 1 rfl rfl ?_
  refine r_ifnull (M := m_J18_fixAfterInsertion) (pc := 6) dJ18_fixAfterInsertion_6 258 (by decide) (fun hc => ?_) (fun hc => ?_)
  · replace H := f_it H hc
    refine r_aload_n (M := m_J18_fixAfterInsertion) (pc := 258) dJ18_fixAfterInsertion_258 0 rfl rfl ?_
    obtain ⟨a2, fs3, x1, e9, h4, h4v, H⟩ := H; cases e9
    refine r_get (M := m_J18_fixAfterInsertion) (pc := 259) dJ18_fixAfterInsertion_259 "java/util/TreeMap" 22 3 _ rfl (Nat.le_of_ble_eq_true rfl) q1350 (Or.inl rfl) h4 (Nat.le_of_ble_eq_true rfl) h4v ?_
    refine r_iconst (M := m_J18_fixAfterInsertion) (pc := 262) dJ18_fixAfterInsertion_262 1 rfl ?_
    obtain ⟨a5, fs6, e9, h7, h7b, H⟩ := H; cases e9
    refine r_put (M := m_J18_fixAfterInsertion) (pc := 263) dJ18_fixAfterInsertion_263 "java/util/TreeMap$Entry" 23 5 _ rfl (Nat.le_of_ble_eq_true rfl) q1677 (Or.inl rfl) rfl h7 (Nat.le_of_ble_eq_true rfl) h7b rfl rfl ?_
    exact r_return (M := m_J18_fixAfterInsertion) (pc := 266) dJ18_fixAfterInsertion_266 rfl H
  · replace H := f_if H hc
    refine r_aload_n (M := m_J18_fixAfterInsertion) (pc := 9) dJ18_fixAfterInsertion_9 1 rfl rfl ?_
    refine r_aload_n (M := m_J18_fixAfterInsertion) (pc := 10) dJ18_fixAfterInsertion_10 0 rfl rfl ?_
    obtain ⟨a10, fs11, x9, e9, h12, h12v, H⟩ := H; cases e9
    refine r_get (M := m_J18_fixAfterInsertion) (pc := 11) dJ18_fixAfterInsertion_11 "java/util/TreeMap" 22 3 _ rfl (Nat.le_of_ble_eq_true rfl) q1350 (Or.inl rfl) h12 (Nat.le_of_ble_eq_true rfl) h12v ?_
    refine r_acmp_eq (M := m_J18_fixAfterInsertion) (pc := 14) dJ18_fixAfterInsertion_14 258 (by decide) (fun hc => ?_) (fun hc => ?_)
    · replace H := f_it H hc
      refine r_aload_n (M := m_J18_fixAfterInsertion) (pc := 258) dJ18_fixAfterInsertion_258 0 rfl rfl ?_
      obtain ⟨a14, fs15, x13, e9, h16, h16v, H⟩ := H; cases e9
      refine r_get (M := m_J18_fixAfterInsertion) (pc := 259) dJ18_fixAfterInsertion_259 "java/util/TreeMap" 22 3 _ rfl (Nat.le_of_ble_eq_true rfl) q1350 (Or.inl rfl) h16 (Nat.le_of_ble_eq_true rfl) h16v ?_
      refine r_iconst (M := m_J18_fixAfterInsertion) (pc := 262) dJ18_fixAfterInsertion_262 1 rfl ?_
      obtain ⟨a17, fs18, e9, h19, h19b, H⟩ := H; cases e9
      refine r_put (M := m_J18_fixAfterInsertion) (pc := 263) dJ18_fixAfterInsertion_263 "java/util/TreeMap$Entry" 23 5 _ rfl (Nat.le_of_ble_eq_true rfl) q1677 (Or.inl rfl) rfl h19 (Nat.le_of_ble_eq_true rfl) h19b rfl rfl ?_
      exact r_return (M := m_J18_fixAfterInsertion) (pc := 266) dJ18_fixAfterInsertion_266 rfl H
    · replace H := f_if H hc
      refine r_aload_n (M := m_J18_fixAfterInsertion) (pc := 17) dJ18_fixAfterInsertion_17 1 rfl rfl ?_
      obtain ⟨a22, fs23, x21, e9, h24, h24v, H⟩ := H; cases e9
      refine r_get (M := m_J18_fixAfterInsertion) (pc := 18) dJ18_fixAfterInsertion_18 "java/util/TreeMap$Entry" 23 4 _ rfl (Nat.le_of_ble_eq_true rfl) q1675 (Or.inl rfl) h24 (Nat.le_of_ble_eq_true rfl) h24v ?_
      obtain ⟨a26, fs27, x25, e9, h28, h28v, H⟩ := H; cases e9
      refine r_get (M := m_J18_fixAfterInsertion) (pc := 21) dJ18_fixAfterInsertion_21 "java/util/TreeMap$Entry" 23 5 _ rfl (Nat.le_of_ble_eq_true rfl) q1677 (Or.inl rfl) h28 (Nat.le_of_ble_eq_true rfl) h28v ?_
      refine r_if_ne (M := m_J18_fixAfterInsertion) (pc := 24) dJ18_fixAfterInsertion_24 258 (by decide) (fun hc => ?_) (fun hc => ?_)
      · replace H := f_if H hc
        refine r_aload_n (M := m_J18_fixAfterInsertion) (pc := 258) dJ18_fixAfterInsertion_258 0 rfl rfl ?_
        obtain ⟨a30, fs31, x29, e9, h32, h32v, H⟩ := H; cases e9
        refine r_get (M := m_J18_fixAfterInsertion) (pc := 259) dJ18_fixAfterInsertion_259 "java/util/TreeMap" 22 3 _ rfl (Nat.le_of_ble_eq_true rfl) q1350 (Or.inl rfl) h32 (Nat.le_of_ble_eq_true rfl) h32v ?_
        refine r_iconst (M := m_J18_fixAfterInsertion) (pc := 262) dJ18_fixAfterInsertion_262 1 rfl ?_
        obtain ⟨a33, fs34, e9, h35, h35b, H⟩ := H; cases e9
        refine r_put (M := m_J18_fixAfterInsertion) (pc := 263) dJ18_fixAfterInsertion_263 "java/util/TreeMap$Entry" 23 5 _ rfl (Nat.le_of_ble_eq_true rfl) q1677 (Or.inl rfl) rfl h35 (Nat.le_of_ble_eq_true rfl) h35b rfl rfl ?_
        exact r_return (M := m_J18_fixAfterInsertion) (pc := 266) dJ18_fixAfterInsertion_266 rfl H
      · replace H := f_it H hc
        refine r_aload_n (M := m_J18_fixAfterInsertion) (pc := 27) dJ18_fixAfterInsertion_27 1 rfl rfl ?_
        refine r_S (M := m_J18_fixAfterInsertion) (pc := 28) dJ18_fixAfterInsertion_28 m_J18_parentOf k_J18_parentOf q1699 q1700 (av := [va_rf _]) (dy := d) n_J18_parentOf rfl (pw_c4 (Nat.le_of_ble_eq_true rfl)) (Nat.le_refl _) (H.mono (pw_nx_r (fun o38 w37 H1 => ?_)))
        replace H := H1; clear H1
        refine r_aload_n (M := m_J18_fixAfterInsertion) (pc := 31) dJ18_fixAfterInsertion_31 1 rfl rfl ?_
        refine r_S (M := m_J18_fixAfterInsertion) (pc := 32) dJ18_fixAfterInsertion_32 m_J18_parentOf k_J18_parentOf q1699 q1700 (av := [va_rf _]) (dy := d) n_J18_parentOf rfl (pw_c4 (Nat.le_of_ble_eq_true rfl)) (Nat.le_refl _) (H.mono (pw_nx_r (fun o40 w39 H1 => ?_)))
        replace H := H1; clear H1
        refine r_S (M := m_J18_fixAfterInsertion) (pc := 35) dJ18_fixAfterInsertion_35 m_J18_parentOf k_J18_parentOf q1699 q1700 (av := [va_rf _]) (dy := d) n_J18_parentOf rfl (pw_c4 (Nat.le_of_ble_eq_true rfl)) (Nat.le_refl _) (H.mono (pw_nx_r (fun o42 w41 H1 => ?_)))
        replace H := H1; clear H1
        refine r_S (M := m_J18_fixAfterInsertion) (pc := 38) dJ18_fixAfterInsertion_38 m_J18_leftOf k_J18_leftOf q1702 q1703 (av := [va_rf _]) (dy := d) n_J18_leftOf rfl (pw_c4 (Nat.le_of_ble_eq_true rfl)) (Nat.le_refl _) (H.mono (pw_nx_r (fun o44 w43 H1 => ?_)))
        replace H := H1; clear H1
        refine r_acmp_ne (M := m_J18_fixAfterInsertion) (pc := 41) dJ18_fixAfterInsertion_41 151 (by decide) (fun hc => ?_) (fun hc => ?_)
        · replace H := f_if H hc
          refine r_aload_n (M := m_J18_fixAfterInsertion) (pc := 151) dJ18_fixAfterInsertion_151 1 rfl rfl ?_
          refine r_S (M := m_J18_fixAfterInsertion) (pc := 152) dJ18_fixAfterInsertion_152 m_J18_parentOf k_J18_parentOf q1699 q1700 (av := [va_rf _]) (dy := d) n_J18_parentOf rfl (pw_c4 (Nat.le_of_ble_eq_true rfl)) (Nat.le_refl _) (H.mono (pw_nx_r (fun o46 w45 H1 => ?_)))
          replace H := H1; clear H1
          refine r_S (M := m_J18_fixAfterInsertion) (pc := 155) dJ18_fixAfterInsertion_155 m_J18_parentOf k_J18_parentOf q1699 q1700 (av := [va_rf _]) (dy := d) n_J18_parentOf rfl (pw_c4 (Nat.le_of_ble_eq_true rfl)) (Nat.le_refl _) (H.mono (pw_nx_r (fun o48 w47 H1 => ?_)))
          replace H := H1; clear H1
          refine r_S (M := m_J18_fixAfterInsertion) (pc := 158) dJ18_fixAfterInsertion_158 m_J18_leftOf k_J18_leftOf q1702 q1703 (av := [va_rf _]) (dy := d) n_J18_leftOf rfl (pw_c4 (Nat.le_of_ble_eq_true rfl)) (Nat.le_refl _) (H.mono (pw_nx_r (fun o50 w49 H1 => ?_)))
          replace H := H1; clear H1
          refine r_astore_n (M := m_J18_fixAfterInsertion) (pc := 161) dJ18_fixAfterInsertion_161 2 rfl (Nat.le_of_ble_eq_true rfl) (pw_pre_rf rfl) ?_
          refine r_aload_n (M := m_J18_fixAfterInsertion) (pc := 162) dJ18_fixAfterInsertion_162 2 rfl rfl ?_
          refine r_S (M := m_J18_fixAfterInsertion) (pc := 163) dJ18_fixAfterInsertion_163 m_J18_colorOf k_J18_colorOf q1708 q1709 (av := [va_rf _]) (dy := d) n_J18_colorOf rfl (pw_c4 (Nat.le_of_ble_eq_true rfl)) (Nat.le_refl _) (H.mono (pw_nx_z (fun b52 w51 H1 => ?_)))
          replace H := H1; clear H1
          refine r_if_ne (M := m_J18_fixAfterInsertion) (pc := 166) dJ18_fixAfterInsertion_166 204 (by decide) (fun hc => ?_) (fun hc => ?_)
          · replace H := f_if H hc
            refine r_aload_n (M := m_J18_fixAfterInsertion) (pc := 204) dJ18_fixAfterInsertion_204 1 rfl rfl ?_
            refine r_aload_n (M := m_J18_fixAfterInsertion) (pc := 205) dJ18_fixAfterInsertion_205 1 rfl rfl ?_
            refine r_S (M := m_J18_fixAfterInsertion) (pc := 206) dJ18_fixAfterInsertion_206 m_J18_parentOf k_J18_parentOf q1699 q1700 (av := [va_rf _]) (dy := d) n_J18_parentOf rfl (pw_c4 (Nat.le_of_ble_eq_true rfl)) (Nat.le_refl _) (H.mono (pw_nx_r (fun o54 w53 H1 => ?_)))
            replace H := H1; clear H1
            refine r_S (M := m_J18_fixAfterInsertion) (pc := 209) dJ18_fixAfterInsertion_209 m_J18_leftOf k_J18_leftOf q1702 q1703 (av := [va_rf _]) (dy := d) n_J18_leftOf rfl (pw_c4 (Nat.le_of_ble_eq_true rfl)) (Nat.le_refl _) (H.mono (pw_nx_r (fun o56 w55 H1 => ?_)))
            replace H := H1; clear H1
            refine r_acmp_ne (M := m_J18_fixAfterInsertion) (pc := 212) dJ18_fixAfterInsertion_212 225 (by decide) (fun hc => ?_) (fun hc => ?_)
            · replace H := f_if H hc
              refine r_aload_n (M := m_J18_fixAfterInsertion) (pc := 225) dJ18_fixAfterInsertion_225 1 rfl rfl ?_
              refine r_S (M := m_J18_fixAfterInsertion) (pc := 226) dJ18_fixAfterInsertion_226 m_J18_parentOf k_J18_parentOf q1699 q1700 (av := [va_rf _]) (dy := d) n_J18_parentOf rfl (pw_c4 (Nat.le_of_ble_eq_true rfl)) (Nat.le_refl _) (H.mono (pw_nx_r (fun o58 w57 H1 => ?_)))
              replace H := H1; clear H1
              refine r_iconst (M := m_J18_fixAfterInsertion) (pc := 229) dJ18_fixAfterInsertion_229 1 rfl ?_
              refine r_S (M := m_J18_fixAfterInsertion) (pc := 230) dJ18_fixAfterInsertion_230 m_J18_setColor k_J18_setColor q1711 q1712 (av := [va_rf _, .int _]) (dy := d) n_J18_setColor rfl (pw_c4 (Nat.le_of_ble_eq_true rfl)) (Nat.le_refl _) (H.mono (pw_nx_v (fun w59 H1 => ?_)))
              replace H := H1; clear H1
              refine r_aload_n (M := m_J18_fixAfterInsertion) (pc := 233) dJ18_fixAfterInsertion_233 1 rfl rfl ?_
              refine r_S (M := m_J18_fixAfterInsertion) (pc := 234) dJ18_fixAfterInsertion_234 m_J18_parentOf k_J18_parentOf q1699 q1700 (av := [va_rf _]) (dy := d) n_J18_parentOf rfl (pw_c4 (Nat.le_of_ble_eq_true rfl)) (Nat.le_refl _) (H.mono (pw_nx_r (fun o61 w60 H1 => ?_)))
              replace H := H1; clear H1
              refine r_S (M := m_J18_fixAfterInsertion) (pc := 237) dJ18_fixAfterInsertion_237 m_J18_parentOf k_J18_parentOf q1699 q1700 (av := [va_rf _]) (dy := d) n_J18_parentOf rfl (pw_c4 (Nat.le_of_ble_eq_true rfl)) (Nat.le_refl _) (H.mono (pw_nx_r (fun o63 w62 H1 => ?_)))
              replace H := H1; clear H1
              refine r_iconst (M := m_J18_fixAfterInsertion) (pc := 240) dJ18_fixAfterInsertion_240 0 rfl ?_
              refine r_S (M := m_J18_fixAfterInsertion) (pc := 241) dJ18_fixAfterInsertion_241 m_J18_setColor k_J18_setColor q1711 q1712 (av := [va_rf _, .int _]) (dy := d) n_J18_setColor rfl (pw_c4 (Nat.le_of_ble_eq_true rfl)) (Nat.le_refl _) (H.mono (pw_nx_v (fun w64 H1 => ?_)))
              replace H := H1; clear H1
              refine r_aload_n (M := m_J18_fixAfterInsertion) (pc := 244) dJ18_fixAfterInsertion_244 0 rfl rfl ?_
              refine r_aload_n (M := m_J18_fixAfterInsertion) (pc := 245) dJ18_fixAfterInsertion_245 1 rfl rfl ?_
              refine r_S (M := m_J18_fixAfterInsertion) (pc := 246) dJ18_fixAfterInsertion_246 m_J18_parentOf k_J18_parentOf q1699 q1700 (av := [va_rf _]) (dy := d) n_J18_parentOf rfl (pw_c4 (Nat.le_of_ble_eq_true rfl)) (Nat.le_refl _) (H.mono (pw_nx_r (fun o66 w65 H1 => ?_)))
              replace H := H1; clear H1
              refine r_S (M := m_J18_fixAfterInsertion) (pc := 249) dJ18_fixAfterInsertion_249 m_J18_parentOf k_J18_parentOf q1699 q1700 (av := [va_rf _]) (dy := d) n_J18_parentOf rfl (pw_c4 (Nat.le_of_ble_eq_true rfl)) (Nat.le_refl _) (H.mono (pw_nx_r (fun o68 w67 H1 => ?_)))
              replace H := H1; clear H1
              obtain ⟨a70, us71, e9, h72, H⟩ := H; cases e9
              refine r_V (M := m_J18_fixAfterInsertion) (pc := 252) dJ18_fixAfterInsertion_252 m_J18_rotateLeft k_J18_rotateLeft q1714 q1716 22 _ rfl qs23 (av := [va_rf _]) (dy := d) n_J18_rotateLeft h72 rfl (pw_c4 (Nat.le_of_ble_eq_true rfl)) (Nat.le_refl _) (H.mono (pw_nx_v (fun w69 H1 => ?_)))
              replace H := H1; clear H1
              refine r_goto (M := m_J18_fixAfterInsertion) (pc := 255) dJ18_fixAfterInsertion_255 5 (by decide) ?_
              exact pw_weak (le_s (le_s (le_n le_0))) H
            · replace H := f_it H hc
              refine r_aload_n (M := m_J18_fixAfterInsertion) (pc := 215) dJ18_fixAfterInsertion_215 1 rfl rfl ?_
              refine r_S (M := m_J18_fixAfterInsertion) (pc := 216) dJ18_fixAfterInsertion_216 m_J18_parentOf k_J18_parentOf q1699 q1700 (av := [va_rf _]) (dy := d) n_J18_parentOf rfl (pw_c4 (Nat.le_of_ble_eq_true rfl)) (Nat.le_refl _) (H.mono (pw_nx_r (fun o74 w73 H1 => ?_)))
              replace H := H1; clear H1
              refine r_astore_n (M := m_J18_fixAfterInsertion) (pc := 219) dJ18_fixAfterInsertion_219 1 rfl (Nat.le_of_ble_eq_true rfl) (pw_pre_rf rfl) ?_
              refine r_aload_n (M := m_J18_fixAfterInsertion) (pc := 220) dJ18_fixAfterInsertion_220 0 rfl rfl ?_
              refine r_aload_n (M := m_J18_fixAfterInsertion) (pc := 221) dJ18_fixAfterInsertion_221 1 rfl rfl ?_
              obtain ⟨a76, us77, e9, h78, H⟩ := H; cases e9
              refine r_V (M := m_J18_fixAfterInsertion) (pc := 222) dJ18_fixAfterInsertion_222 m_J18_rotateRight k_J18_rotateRight q1718 q1720 22 _ rfl qs24 (av := [va_rf _]) (dy := d) n_J18_rotateRight h78 rfl (pw_c4 (Nat.le_of_ble_eq_true rfl)) (Nat.le_refl _) (H.mono (pw_nx_v (fun w75 H1 => ?_)))
              replace H := H1; clear H1
              refine r_aload_n (M := m_J18_fixAfterInsertion) (pc := 225) dJ18_fixAfterInsertion_225 1 rfl rfl ?_
              refine r_S (M := m_J18_fixAfterInsertion) (pc := 226) dJ18_fixAfterInsertion_226 m_J18_parentOf k_J18_parentOf q1699 q1700 (av := [va_rf _]) (dy := d) n_J18_parentOf rfl (pw_c4 (Nat.le_of_ble_eq_true rfl)) (Nat.le_refl _) (H.mono (pw_nx_r (fun o80 w79 H1 => ?_)))
              replace H := H1; clear H1
              refine r_iconst (M := m_J18_fixAfterInsertion) (pc := 229) dJ18_fixAfterInsertion_229 1 rfl ?_
              refine r_S (M := m_J18_fixAfterInsertion) (pc := 230) dJ18_fixAfterInsertion_230 m_J18_setColor k_J18_setColor q1711 q1712 (av := [va_rf _, .int _]) (dy := d) n_J18_setColor rfl (pw_c4 (Nat.le_of_ble_eq_true rfl)) (Nat.le_refl _) (H.mono (pw_nx_v (fun w81 H1 => ?_)))
              replace H := H1; clear H1
              refine r_aload_n (M := m_J18_fixAfterInsertion) (pc := 233) dJ18_fixAfterInsertion_233 1 rfl rfl ?_
              refine r_S (M := m_J18_fixAfterInsertion) (pc := 234) dJ18_fixAfterInsertion_234 m_J18_parentOf k_J18_parentOf q1699 q1700 (av := [va_rf _]) (dy := d) n_J18_parentOf rfl (pw_c4 (Nat.le_of_ble_eq_true rfl)) (Nat.le_refl _) (H.mono (pw_nx_r (fun o83 w82 H1 => ?_)))
              replace H := H1; clear H1
              refine r_S (M := m_J18_fixAfterInsertion) (pc := 237) dJ18_fixAfterInsertion_237 m_J18_parentOf k_J18_parentOf q1699 q1700 (av := [va_rf _]) (dy := d) n_J18_parentOf rfl (pw_c4 (Nat.le_of_ble_eq_true rfl)) (Nat.le_refl _) (H.mono (pw_nx_r (fun o85 w84 H1 => ?_)))
              replace H := H1; clear H1
              refine r_iconst (M := m_J18_fixAfterInsertion) (pc := 240) dJ18_fixAfterInsertion_240 0 rfl ?_
              refine r_S (M := m_J18_fixAfterInsertion) (pc := 241) dJ18_fixAfterInsertion_241 m_J18_setColor k_J18_setColor q1711 q1712 (av := [va_rf _, .int _]) (dy := d) n_J18_setColor rfl (pw_c4 (Nat.le_of_ble_eq_true rfl)) (Nat.le_refl _) (H.mono (pw_nx_v (fun w86 H1 => ?_)))
              replace H := H1; clear H1
              refine r_aload_n (M := m_J18_fixAfterInsertion) (pc := 244) dJ18_fixAfterInsertion_244 0 rfl rfl ?_
              refine r_aload_n (M := m_J18_fixAfterInsertion) (pc := 245) dJ18_fixAfterInsertion_245 1 rfl rfl ?_
              refine r_S (M := m_J18_fixAfterInsertion) (pc := 246) dJ18_fixAfterInsertion_246 m_J18_parentOf k_J18_parentOf q1699 q1700 (av := [va_rf _]) (dy := d) n_J18_parentOf rfl (pw_c4 (Nat.le_of_ble_eq_true rfl)) (Nat.le_refl _) (H.mono (pw_nx_r (fun o88 w87 H1 => ?_)))
              replace H := H1; clear H1
              refine r_S (M := m_J18_fixAfterInsertion) (pc := 249) dJ18_fixAfterInsertion_249 m_J18_parentOf k_J18_parentOf q1699 q1700 (av := [va_rf _]) (dy := d) n_J18_parentOf rfl (pw_c4 (Nat.le_of_ble_eq_true rfl)) (Nat.le_refl _) (H.mono (pw_nx_r (fun o90 w89 H1 => ?_)))
              replace H := H1; clear H1
              obtain ⟨a92, us93, e9, h94, H⟩ := H; cases e9
              refine r_V (M := m_J18_fixAfterInsertion) (pc := 252) dJ18_fixAfterInsertion_252 m_J18_rotateLeft k_J18_rotateLeft q1714 q1716 22 _ rfl qs23 (av := [va_rf _]) (dy := d) n_J18_rotateLeft h94 rfl (pw_c4 (Nat.le_of_ble_eq_true rfl)) (Nat.le_refl _) (H.mono (pw_nx_v (fun w91 H1 => ?_)))
              replace H := H1; clear H1
              refine r_goto (M := m_J18_fixAfterInsertion) (pc := 255) dJ18_fixAfterInsertion_255 5 (by decide) ?_
              exact pw_weak (le_s (le_s (le_n le_0))) H
          · replace H := f_it H hc
            refine r_aload_n (M := m_J18_fixAfterInsertion) (pc := 169) dJ18_fixAfterInsertion_169 1 rfl rfl ?_
            refine r_S (M := m_J18_fixAfterInsertion) (pc := 170) dJ18_fixAfterInsertion_170 m_J18_parentOf k_J18_parentOf q1699 q1700 (av := [va_rf _]) (dy := d) n_J18_parentOf rfl (pw_c4 (Nat.le_of_ble_eq_true rfl)) (Nat.le_refl _) (H.mono (pw_nx_r (fun o96 w95 H1 => ?_)))
            replace H := H1; clear H1
            refine r_iconst (M := m_J18_fixAfterInsertion) (pc := 173) dJ18_fixAfterInsertion_173 1 rfl ?_
            refine r_S (M := m_J18_fixAfterInsertion) (pc := 174) dJ18_fixAfterInsertion_174 m_J18_setColor k_J18_setColor q1711 q1712 (av := [va_rf _, .int _]) (dy := d) n_J18_setColor rfl (pw_c4 (Nat.le_of_ble_eq_true rfl)) (Nat.le_refl _) (H.mono (pw_nx_v (fun w97 H1 => ?_)))
            replace H := H1; clear H1
            refine r_aload_n (M := m_J18_fixAfterInsertion) (pc := 177) dJ18_fixAfterInsertion_177 2 rfl rfl ?_
            refine r_iconst (M := m_J18_fixAfterInsertion) (pc := 178) dJ18_fixAfterInsertion_178 1 rfl ?_
            refine r_S (M := m_J18_fixAfterInsertion) (pc := 179) dJ18_fixAfterInsertion_179 m_J18_setColor k_J18_setColor q1711 q1712 (av := [va_rf _, .int _]) (dy := d) n_J18_setColor rfl (pw_c4 (Nat.le_of_ble_eq_true rfl)) (Nat.le_refl _) (H.mono (pw_nx_v (fun w98 H1 => ?_)))
            replace H := H1; clear H1
            refine r_aload_n (M := m_J18_fixAfterInsertion) (pc := 182) dJ18_fixAfterInsertion_182 1 rfl rfl ?_
            refine r_S (M := m_J18_fixAfterInsertion) (pc := 183) dJ18_fixAfterInsertion_183 m_J18_parentOf k_J18_parentOf q1699 q1700 (av := [va_rf _]) (dy := d) n_J18_parentOf rfl (pw_c4 (Nat.le_of_ble_eq_true rfl)) (Nat.le_refl _) (H.mono (pw_nx_r (fun o100 w99 H1 => ?_)))
            replace H := H1; clear H1
            refine r_S (M := m_J18_fixAfterInsertion) (pc := 186) dJ18_fixAfterInsertion_186 m_J18_parentOf k_J18_parentOf q1699 q1700 (av := [va_rf _]) (dy := d) n_J18_parentOf rfl (pw_c4 (Nat.le_of_ble_eq_true rfl)) (Nat.le_refl _) (H.mono (pw_nx_r (fun o102 w101 H1 => ?_)))
            replace H := H1; clear H1
            refine r_iconst (M := m_J18_fixAfterInsertion) (pc := 189) dJ18_fixAfterInsertion_189 0 rfl ?_
            refine r_S (M := m_J18_fixAfterInsertion) (pc := 190) dJ18_fixAfterInsertion_190 m_J18_setColor k_J18_setColor q1711 q1712 (av := [va_rf _, .int _]) (dy := d) n_J18_setColor rfl (pw_c4 (Nat.le_of_ble_eq_true rfl)) (Nat.le_refl _) (H.mono (pw_nx_v (fun w103 H1 => ?_)))
            replace H := H1; clear H1
            refine r_aload_n (M := m_J18_fixAfterInsertion) (pc := 193) dJ18_fixAfterInsertion_193 1 rfl rfl ?_
            refine r_S (M := m_J18_fixAfterInsertion) (pc := 194) dJ18_fixAfterInsertion_194 m_J18_parentOf k_J18_parentOf q1699 q1700 (av := [va_rf _]) (dy := d) n_J18_parentOf rfl (pw_c4 (Nat.le_of_ble_eq_true rfl)) (Nat.le_refl _) (H.mono (pw_nx_r (fun o105 w104 H1 => ?_)))
            replace H := H1; clear H1
            refine r_S (M := m_J18_fixAfterInsertion) (pc := 197) dJ18_fixAfterInsertion_197 m_J18_parentOf k_J18_parentOf q1699 q1700 (av := [va_rf _]) (dy := d) n_J18_parentOf rfl (pw_c4 (Nat.le_of_ble_eq_true rfl)) (Nat.le_refl _) (H.mono (pw_nx_r (fun o107 w106 H1 => ?_)))
            replace H := H1; clear H1
            refine r_astore_n (M := m_J18_fixAfterInsertion) (pc := 200) dJ18_fixAfterInsertion_200 1 rfl (Nat.le_of_ble_eq_true rfl) (pw_pre_rf rfl) ?_
            refine r_goto (M := m_J18_fixAfterInsertion) (pc := 201) dJ18_fixAfterInsertion_201 255 (by decide) ?_
            refine r_goto (M := m_J18_fixAfterInsertion) (pc := 255) dJ18_fixAfterInsertion_255 5 (by decide) ?_
            exact pw_weak (le_s (le_s (le_n le_0))) H
        · replace H := f_it H hc
          refine r_aload_n (M := m_J18_fixAfterInsertion) (pc := 44) dJ18_fixAfterInsertion_44 1 rfl rfl ?_
          refine r_S (M := m_J18_fixAfterInsertion) (pc := 45) dJ18_fixAfterInsertion_45 m_J18_parentOf k_J18_parentOf q1699 q1700 (av := [va_rf _]) (dy := d) n_J18_parentOf rfl (pw_c4 (Nat.le_of_ble_eq_true rfl)) (Nat.le_refl _) (H.mono (pw_nx_r (fun o109 w108 H1 => ?_)))
          replace H := H1; clear H1
          refine r_S (M := m_J18_fixAfterInsertion) (pc := 48) dJ18_fixAfterInsertion_48 m_J18_parentOf k_J18_parentOf q1699 q1700 (av := [va_rf _]) (dy := d) n_J18_parentOf rfl (pw_c4 (Nat.le_of_ble_eq_true rfl)) (Nat.le_refl _) (H.mono (pw_nx_r (fun o111 w110 H1 => ?_)))
          replace H := H1; clear H1
          refine r_S (M := m_J18_fixAfterInsertion) (pc := 51) dJ18_fixAfterInsertion_51 m_J18_rightOf k_J18_rightOf q1705 q1706 (av := [va_rf _]) (dy := d) n_J18_rightOf rfl (pw_c4 (Nat.le_of_ble_eq_true rfl)) (Nat.le_refl _) (H.mono (pw_nx_r (fun o113 w112 H1 => ?_)))
          replace H := H1; clear H1
          refine r_astore_n (M := m_J18_fixAfterInsertion) (pc := 54) dJ18_fixAfterInsertion_54 2 rfl (Nat.le_of_ble_eq_true rfl) (pw_pre_rf rfl) ?_
          refine r_aload_n (M := m_J18_fixAfterInsertion) (pc := 55) dJ18_fixAfterInsertion_55 2 rfl rfl ?_
          refine r_S (M := m_J18_fixAfterInsertion) (pc := 56) dJ18_fixAfterInsertion_56 m_J18_colorOf k_J18_colorOf q1708 q1709 (av := [va_rf _]) (dy := d) n_J18_colorOf rfl (pw_c4 (Nat.le_of_ble_eq_true rfl)) (Nat.le_refl _) (H.mono (pw_nx_z (fun b115 w114 H1 => ?_)))
          replace H := H1; clear H1
          refine r_if_ne (M := m_J18_fixAfterInsertion) (pc := 59) dJ18_fixAfterInsertion_59 97 (by decide) (fun hc => ?_) (fun hc => ?_)
          · replace H := f_if H hc
            refine r_aload_n (M := m_J18_fixAfterInsertion) (pc := 97) dJ18_fixAfterInsertion_97 1 rfl rfl ?_
            refine r_aload_n (M := m_J18_fixAfterInsertion) (pc := 98) dJ18_fixAfterInsertion_98 1 rfl rfl ?_
            refine r_S (M := m_J18_fixAfterInsertion) (pc := 99) dJ18_fixAfterInsertion_99 m_J18_parentOf k_J18_parentOf q1699 q1700 (av := [va_rf _]) (dy := d) n_J18_parentOf rfl (pw_c4 (Nat.le_of_ble_eq_true rfl)) (Nat.le_refl _) (H.mono (pw_nx_r (fun o117 w116 H1 => ?_)))
            replace H := H1; clear H1
            refine r_S (M := m_J18_fixAfterInsertion) (pc := 102) dJ18_fixAfterInsertion_102 m_J18_rightOf k_J18_rightOf q1705 q1706 (av := [va_rf _]) (dy := d) n_J18_rightOf rfl (pw_c4 (Nat.le_of_ble_eq_true rfl)) (Nat.le_refl _) (H.mono (pw_nx_r (fun o119 w118 H1 => ?_)))
            replace H := H1; clear H1
            refine r_acmp_ne (M := m_J18_fixAfterInsertion) (pc := 105) dJ18_fixAfterInsertion_105 118 (by decide) (fun hc => ?_) (fun hc => ?_)
            · replace H := f_if H hc
              exact pw_weak (le_s (le_s (le_n le_0))) H
            · replace H := f_it H hc
              refine r_aload_n (M := m_J18_fixAfterInsertion) (pc := 108) dJ18_fixAfterInsertion_108 1 rfl rfl ?_
              refine r_S (M := m_J18_fixAfterInsertion) (pc := 109) dJ18_fixAfterInsertion_109 m_J18_parentOf k_J18_parentOf q1699 q1700 (av := [va_rf _]) (dy := d) n_J18_parentOf rfl (pw_c4 (Nat.le_of_ble_eq_true rfl)) (Nat.le_refl _) (H.mono (pw_nx_r (fun o121 w120 H1 => ?_)))
              replace H := H1; clear H1
              refine r_astore_n (M := m_J18_fixAfterInsertion) (pc := 112) dJ18_fixAfterInsertion_112 1 rfl (Nat.le_of_ble_eq_true rfl) (pw_pre_rf rfl) ?_
              refine r_aload_n (M := m_J18_fixAfterInsertion) (pc := 113) dJ18_fixAfterInsertion_113 0 rfl rfl ?_
              refine r_aload_n (M := m_J18_fixAfterInsertion) (pc := 114) dJ18_fixAfterInsertion_114 1 rfl rfl ?_
              obtain ⟨a123, us124, e9, h125, H⟩ := H; cases e9
              refine r_V (M := m_J18_fixAfterInsertion) (pc := 115) dJ18_fixAfterInsertion_115 m_J18_rotateLeft k_J18_rotateLeft q1714 q1716 22 _ rfl qs23 (av := [va_rf _]) (dy := d) n_J18_rotateLeft h125 rfl (pw_c4 (Nat.le_of_ble_eq_true rfl)) (Nat.le_refl _) (H.mono (pw_nx_v (fun w122 H1 => ?_)))
              replace H := H1; clear H1
              exact pw_weak (le_s (le_s (le_n le_0))) H
          · replace H := f_it H hc
            refine r_aload_n (M := m_J18_fixAfterInsertion) (pc := 62) dJ18_fixAfterInsertion_62 1 rfl rfl ?_
            refine r_S (M := m_J18_fixAfterInsertion) (pc := 63) dJ18_fixAfterInsertion_63 m_J18_parentOf k_J18_parentOf q1699 q1700 (av := [va_rf _]) (dy := d) n_J18_parentOf rfl (pw_c4 (Nat.le_of_ble_eq_true rfl)) (Nat.le_refl _) (H.mono (pw_nx_r (fun o127 w126 H1 => ?_)))
            replace H := H1; clear H1
            refine r_iconst (M := m_J18_fixAfterInsertion) (pc := 66) dJ18_fixAfterInsertion_66 1 rfl ?_
            refine r_S (M := m_J18_fixAfterInsertion) (pc := 67) dJ18_fixAfterInsertion_67 m_J18_setColor k_J18_setColor q1711 q1712 (av := [va_rf _, .int _]) (dy := d) n_J18_setColor rfl (pw_c4 (Nat.le_of_ble_eq_true rfl)) (Nat.le_refl _) (H.mono (pw_nx_v (fun w128 H1 => ?_)))
            replace H := H1; clear H1
            refine r_aload_n (M := m_J18_fixAfterInsertion) (pc := 70) dJ18_fixAfterInsertion_70 2 rfl rfl ?_
            refine r_iconst (M := m_J18_fixAfterInsertion) (pc := 71) dJ18_fixAfterInsertion_71 1 rfl ?_
            refine r_S (M := m_J18_fixAfterInsertion) (pc := 72) dJ18_fixAfterInsertion_72 m_J18_setColor k_J18_setColor q1711 q1712 (av := [va_rf _, .int _]) (dy := d) n_J18_setColor rfl (pw_c4 (Nat.le_of_ble_eq_true rfl)) (Nat.le_refl _) (H.mono (pw_nx_v (fun w129 H1 => ?_)))
            replace H := H1; clear H1
            refine r_aload_n (M := m_J18_fixAfterInsertion) (pc := 75) dJ18_fixAfterInsertion_75 1 rfl rfl ?_
            refine r_S (M := m_J18_fixAfterInsertion) (pc := 76) dJ18_fixAfterInsertion_76 m_J18_parentOf k_J18_parentOf q1699 q1700 (av := [va_rf _]) (dy := d) n_J18_parentOf rfl (pw_c4 (Nat.le_of_ble_eq_true rfl)) (Nat.le_refl _) (H.mono (pw_nx_r (fun o131 w130 H1 => ?_)))
            replace H := H1; clear H1
            refine r_S (M := m_J18_fixAfterInsertion) (pc := 79) dJ18_fixAfterInsertion_79 m_J18_parentOf k_J18_parentOf q1699 q1700 (av := [va_rf _]) (dy := d) n_J18_parentOf rfl (pw_c4 (Nat.le_of_ble_eq_true rfl)) (Nat.le_refl _) (H.mono (pw_nx_r (fun o133 w132 H1 => ?_)))
            replace H := H1; clear H1
            refine r_iconst (M := m_J18_fixAfterInsertion) (pc := 82) dJ18_fixAfterInsertion_82 0 rfl ?_
            refine r_S (M := m_J18_fixAfterInsertion) (pc := 83) dJ18_fixAfterInsertion_83 m_J18_setColor k_J18_setColor q1711 q1712 (av := [va_rf _, .int _]) (dy := d) n_J18_setColor rfl (pw_c4 (Nat.le_of_ble_eq_true rfl)) (Nat.le_refl _) (H.mono (pw_nx_v (fun w134 H1 => ?_)))
            replace H := H1; clear H1
            refine r_aload_n (M := m_J18_fixAfterInsertion) (pc := 86) dJ18_fixAfterInsertion_86 1 rfl rfl ?_
            refine r_S (M := m_J18_fixAfterInsertion) (pc := 87) dJ18_fixAfterInsertion_87 m_J18_parentOf k_J18_parentOf q1699 q1700 (av := [va_rf _]) (dy := d) n_J18_parentOf rfl (pw_c4 (Nat.le_of_ble_eq_true rfl)) (Nat.le_refl _) (H.mono (pw_nx_r (fun o136 w135 H1 => ?_)))
            replace H := H1; clear H1
            refine r_S (M := m_J18_fixAfterInsertion) (pc := 90) dJ18_fixAfterInsertion_90 m_J18_parentOf k_J18_parentOf q1699 q1700 (av := [va_rf _]) (dy := d) n_J18_parentOf rfl (pw_c4 (Nat.le_of_ble_eq_true rfl)) (Nat.le_refl _) (H.mono (pw_nx_r (fun o138 w137 H1 => ?_)))
            replace H := H1; clear H1
            refine r_astore_n (M := m_J18_fixAfterInsertion) (pc := 93) dJ18_fixAfterInsertion_93 1 rfl (Nat.le_of_ble_eq_true rfl) (pw_pre_rf rfl) ?_
            refine r_goto (M := m_J18_fixAfterInsertion) (pc := 94) dJ18_fixAfterInsertion_94 148 (by decide) ?_
            refine r_goto (M := m_J18_fixAfterInsertion) (pc := 148) dJ18_fixAfterInsertion_148 5 (by decide) ?_
            exact pw_weak (le_s (le_s (le_n le_0))) H
theorem s_J18_fixAfterInsertion_118 {E : pw_E} {d : Nat} {w : pw_W} {Post : pw_R → pw_W → Prop} (v0 : Option Nat) (v1 : Option Nat) (H : pw_Cl E m_J18_parentOf d [va_rf v1] w (c_r (fun o2 w1 => pw_Cl E m_J18_setColor d [va_rf o2, .int 1] w1 (c_v (fun w3 => pw_Cl E m_J18_parentOf d [va_rf v1] w3 (c_r (fun o5 w4 => pw_Cl E m_J18_parentOf d [va_rf o5] w4 (c_r (fun o7 w6 => pw_Cl E m_J18_setColor d [va_rf o7, .int 0] w6 (c_v (fun w8 => pw_Cl E m_J18_parentOf d [va_rf v1] w8 (c_r (fun o10 w9 => pw_Cl E m_J18_parentOf d [va_rf o10] w9 (c_r (fun o12 w11 => f_V E w11 v0 22 m_J18_rotateRight d [va_rf o12] (c_v (fun w13 => pw_Wp E m_J18_fixAfterInsertion (d + 1) 5 [some (va_rf v0), some (va_rf v1), none] [] w13 Post))))))))))))))))) : pw_Wp E m_J18_fixAfterInsertion (d + 1) 118 [some (va_rf v0), some (va_rf v1), none] [] w Post := by
  refine r_aload_n (M := m_J18_fixAfterInsertion) (pc := 118) dJ18_fixAfterInsertion_118 1 rfl rfl ?_
  refine r_S (M := m_J18_fixAfterInsertion) (pc := 119) dJ18_fixAfterInsertion_119 m_J18_parentOf k_J18_parentOf q1699 q1700 (av := [va_rf _]) (dy := d) n_J18_parentOf rfl (pw_c4 (Nat.le_of_ble_eq_true rfl)) (Nat.le_refl _) (H.mono (pw_nx_r (fun o2 w1 H1 => ?_)))
  replace H := H1; clear H1
  refine r_iconst (M := m_J18_fixAfterInsertion) (pc := 122) dJ18_fixAfterInsertion_122 1 rfl ?_
  refine r_S (M := m_J18_fixAfterInsertion) (pc := 123) dJ18_fixAfterInsertion_123 m_J18_setColor k_J18_setColor q1711 q1712 (av := [va_rf _, .int _]) (dy := d) n_J18_setColor rfl (pw_c4 (Nat.le_of_ble_eq_true rfl)) (Nat.le_refl _) (H.mono (pw_nx_v (fun w3 H1 => ?_)))
  replace H := H1; clear H1
  refine r_aload_n (M := m_J18_fixAfterInsertion) (pc := 126) dJ18_fixAfterInsertion_126 1 rfl rfl ?_
  refine r_S (M := m_J18_fixAfterInsertion) (pc := 127) dJ18_fixAfterInsertion_127 m_J18_parentOf k_J18_parentOf q1699 q1700 (av := [va_rf _]) (dy := d) n_J18_parentOf rfl (pw_c4 (Nat.le_of_ble_eq_true rfl)) (Nat.le_refl _) (H.mono (pw_nx_r (fun o5 w4 H1 => ?_)))
  replace H := H1; clear H1
  refine r_S (M := m_J18_fixAfterInsertion) (pc := 130) dJ18_fixAfterInsertion_130 m_J18_parentOf k_J18_parentOf q1699 q1700 (av := [va_rf _]) (dy := d) n_J18_parentOf rfl (pw_c4 (Nat.le_of_ble_eq_true rfl)) (Nat.le_refl _) (H.mono (pw_nx_r (fun o7 w6 H1 => ?_)))
  replace H := H1; clear H1
  refine r_iconst (M := m_J18_fixAfterInsertion) (pc := 133) dJ18_fixAfterInsertion_133 0 rfl ?_
  refine r_S (M := m_J18_fixAfterInsertion) (pc := 134) dJ18_fixAfterInsertion_134 m_J18_setColor k_J18_setColor q1711 q1712 (av := [va_rf _, .int _]) (dy := d) n_J18_setColor rfl (pw_c4 (Nat.le_of_ble_eq_true rfl)) (Nat.le_refl _) (H.mono (pw_nx_v (fun w8 H1 => ?_)))
  replace H := H1; clear H1
  refine r_aload_n (M := m_J18_fixAfterInsertion) (pc := 137) dJ18_fixAfterInsertion_137 0 rfl rfl ?_
  refine r_aload_n (M := m_J18_fixAfterInsertion) (pc := 138) dJ18_fixAfterInsertion_138 1 rfl rfl ?_
  refine r_S (M := m_J18_fixAfterInsertion) (pc := 139) dJ18_fixAfterInsertion_139 m_J18_parentOf k_J18_parentOf q1699 q1700 (av := [va_rf _]) (dy := d) n_J18_parentOf rfl (pw_c4 (Nat.le_of_ble_eq_true rfl)) (Nat.le_refl _) (H.mono (pw_nx_r (fun o10 w9 H1 => ?_)))
  replace H := H1; clear H1
  refine r_S (M := m_J18_fixAfterInsertion) (pc := 142) dJ18_fixAfterInsertion_142 m_J18_parentOf k_J18_parentOf q1699 q1700 (av := [va_rf _]) (dy := d) n_J18_parentOf rfl (pw_c4 (Nat.le_of_ble_eq_true rfl)) (Nat.le_refl _) (H.mono (pw_nx_r (fun o12 w11 H1 => ?_)))
  replace H := H1; clear H1
  obtain ⟨a14, us15, e9, h16, H⟩ := H; cases e9
  refine r_V (M := m_J18_fixAfterInsertion) (pc := 145) dJ18_fixAfterInsertion_145 m_J18_rotateRight k_J18_rotateRight q1718 q1720 22 _ rfl qs24 (av := [va_rf _]) (dy := d) n_J18_rotateRight h16 rfl (pw_c4 (Nat.le_of_ble_eq_true rfl)) (Nat.le_refl _) (H.mono (pw_nx_v (fun w13 H1 => ?_)))
  replace H := H1; clear H1
  refine r_goto (M := m_J18_fixAfterInsertion) (pc := 148) dJ18_fixAfterInsertion_148 5 (by decide) ?_
  exact pw_weak (le_s (le_s (le_n le_0))) H
theorem e_J18_fixAfterInsertion {E : pw_E} {d : Nat} {w : pw_W} {Post : pw_R → pw_W → Prop} (v0 : Option Nat) (v1 : Option Nat) (H : pw_Wp E m_J18_fixAfterInsertion d 0 [some (va_rf v0), some (va_rf v1), none] [] w Post) : pw_Cl E m_J18_fixAfterInsertion d [va_rf v0, va_rf v1] w Post := pw_meth (by decide) rfl (pw_e1 (pw_cat_rf _) (pw_e1 (pw_cat_rf _) (pw_e0 (n := 1)))) H
theorem s_J18_get_0 {E : pw_E} {d : Nat} {w : pw_W} {Post : pw_R → pw_W → Prop} (v0 : Option Nat) (v1 : Option Nat) (H : f_V E w v0 22 m_J18_getEntry d [va_rf v1] (c_r (fun o2 w1 => (if o2 = none then Post (.inl (some (va_rf none))) w1 else f_getr w1 o2 23 1 (fun x6 => Post (.inl (some (va_rf x6))) w1))))) : pw_Wp E m_J18_get (d + 1) 0 [some (va_rf v0), some (va_rf v1), none] [] w Post := by
  refine r_aload_n (M := m_J18_get) (pc := 0) dJ18_get_0 0 rfl rfl ?_
  refine r_aload_n (M := m_J18_get) (pc := 1) dJ18_get_1 1 rfl rfl ?_
  obtain ⟨a3, us4, e9, h5, H⟩ := H; cases e9
  refine r_V (M := m_J18_get) (pc := 2) dJ18_get_2 m_J18_getEntry k_J18_getEntry q1379 q1380 22 _ rfl q1381 (av := [va_rf _]) (dy := d) n_J18_getEntry h5 rfl (pw_c4 (Nat.le_of_ble_eq_true rfl)) (Nat.le_refl _) (H.mono (pw_nx_r (fun o2 w1 H1 => ?_)))
  replace H := H1; clear H1
  refine r_astore_n (M := m_J18_get) (pc := 5) dJ18_get_5 2 rfl (Nat.le_of_ble_eq_true rfl) (pw_pre_rf rfl) ?_
  refine r_aload_n (M := m_J18_get) (pc := 6) dJ18_get_6 2 rfl rfl ?_
  refine r_ifnonnull (M := m_J18_get) (pc := 7) dJ18_get_7 14 (by decide) (fun hc => ?_) (fun hc => ?_)
  · replace H := f_if H hc
    refine r_aload_n (M := m_J18_get) (pc := 14) dJ18_get_14 2 rfl rfl ?_
    obtain ⟨a7, fs8, x6, e9, h9, h9v, H⟩ := H; cases e9
    refine r_get (M := m_J18_get) (pc := 15) dJ18_get_15 "java/util/TreeMap$Entry" 23 1 _ rfl (Nat.le_of_ble_eq_true rfl) q1671 (Or.inl rfl) h9 (Nat.le_of_ble_eq_true rfl) h9v ?_
    exact r_areturn (M := m_J18_get) (pc := 18) dJ18_get_18 rfl (by simp) H
  · replace H := f_it H hc
    refine r_null (M := m_J18_get) (pc := 10) dJ18_get_10 ?_
    refine r_goto (M := m_J18_get) (pc := 11) dJ18_get_11 18 (by decide) ?_
    exact r_areturn (M := m_J18_get) (pc := 18) dJ18_get_18 rfl (by simp) H
theorem e_J18_get {E : pw_E} {d : Nat} {w : pw_W} {Post : pw_R → pw_W → Prop} (v0 : Option Nat) (v1 : Option Nat) (H : pw_Wp E m_J18_get d 0 [some (va_rf v0), some (va_rf v1), none] [] w Post) : pw_Cl E m_J18_get d [va_rf v0, va_rf v1] w Post := pw_meth (by decide) rfl (pw_e1 (pw_cat_rf _) (pw_e1 (pw_cat_rf _) (pw_e0 (n := 1)))) H
theorem s_J18_getEntry_0 {E : pw_E} {d : Nat} {w : pw_W} {Post : pw_R → pw_W → Prop} (v0 : Option Nat) (v1 : Option Nat) (H : f_getr w v0 22 2 (fun x1 => (if x1 = none then pw_Cl E m_J19_requireNonNull d [va_rf v1] w (c_r (fun o6 w5 => f_cast w5 v1 "java/lang/Comparable" (f_getr w5 v0 22 3 (fun x7 => pw_Wp E m_J18_getEntry (d + 1) 28 [none, none, some (va_rf v1), some (va_rf x7), none] [] w5 Post)))) else f_V E w v0 22 m_J18_getEntryUsingComparator d [va_rf v1] (c_r (fun o12 w11 => Post (.inl (some (va_rf o12))) w11))))) : pw_Wp E m_J18_getEntry (d + 1) 0 [some (va_rf v0), some (va_rf v1), none, none, none] [] w Post := by
  refine r_aload_n (M := m_J18_getEntry) (pc := 0) dJ18_getEntry_0 0 rfl rfl ?_
  obtain ⟨a2, fs3, x1, e9, h4, h4v, H⟩ := H; cases e9
  refine r_get (M := m_J18_getEntry) (pc := 1) dJ18_getEntry_1 "java/util/TreeMap" 22 2 _ rfl (Nat.le_of_ble_eq_true rfl) q1349 (Or.inl rfl) h4 (Nat.le_of_ble_eq_true rfl) h4v ?_
  refine r_ifnull (M := m_J18_getEntry) (pc := 4) dJ18_getEntry_4 13 (by decide) (fun hc => ?_) (fun hc => ?_)
  · replace H := f_it H hc
    refine r_aload_n (M := m_J18_getEntry) (pc := 13) dJ18_getEntry_13 1 rfl rfl ?_
    refine r_S (M := m_J18_getEntry) (pc := 14) dJ18_getEntry_14 m_J19_requireNonNull k_J19_requireNonNull q1406 q1407 (av := [va_rf _]) (dy := d) n_J19_requireNonNull rfl (pw_c4 (Nat.le_of_ble_eq_true rfl)) (Nat.le_refl _) (H.mono (pw_nx_r (fun o6 w5 H1 => ?_)))
    replace H := H1; clear H1
    refine r_pop (M := m_J18_getEntry) (pc := 17) dJ18_getEntry_17 (pw_cat_rf _) ?_
    refine r_aload_n (M := m_J18_getEntry) (pc := 18) dJ18_getEntry_18 1 rfl rfl ?_
    obtain ⟨hk, H⟩ := H
    refine r_cast (M := m_J18_getEntry) (pc := 19) dJ18_getEntry_19 "java/lang/Comparable" q1409 hk ?_
    refine r_astore_n (M := m_J18_getEntry) (pc := 22) dJ18_getEntry_22 2 rfl (Nat.le_of_ble_eq_true rfl) (pw_pre_rf rfl) ?_
    refine r_aload_n (M := m_J18_getEntry) (pc := 23) dJ18_getEntry_23 0 rfl rfl ?_
    obtain ⟨a8, fs9, x7, e9, h10, h10v, H⟩ := H; cases e9
    refine r_get (M := m_J18_getEntry) (pc := 24) dJ18_getEntry_24 "java/util/TreeMap" 22 3 _ rfl (Nat.le_of_ble_eq_true rfl) q1350 (Or.inl rfl) h10 (Nat.le_of_ble_eq_true rfl) h10v ?_
    refine r_astore_n (M := m_J18_getEntry) (pc := 27) dJ18_getEntry_27 3 rfl (Nat.le_of_ble_eq_true rfl) (pw_pre_rf rfl) ?_
    exact pw_weak (le_n (le_n (le_s (le_s (le_n le_0))))) H
  · replace H := f_if H hc
    refine r_aload_n (M := m_J18_getEntry) (pc := 7) dJ18_getEntry_7 0 rfl rfl ?_
    refine r_aload_n (M := m_J18_getEntry) (pc := 8) dJ18_getEntry_8 1 rfl rfl ?_
    obtain ⟨a13, us14, e9, h15, H⟩ := H; cases e9
    refine r_V (M := m_J18_getEntry) (pc := 9) dJ18_getEntry_9 m_J18_getEntryUsingComparator k_J18_getEntryUsingComparator q1383 q1384 22 _ rfl q1385 (av := [va_rf _]) (dy := d) n_J18_getEntryUsingComparator h15 rfl (pw_c4 (Nat.le_of_ble_eq_true rfl)) (Nat.le_refl _) (H.mono (pw_nx_r (fun o12 w11 H1 => ?_)))
    replace H := H1; clear H1
    exact r_areturn (M := m_J18_getEntry) (pc := 12) dJ18_getEntry_12 rfl (by simp) H
theorem s_J18_getEntry_28 {E : pw_E} {d : Nat} {w : pw_W} {Post : pw_R → pw_W → Prop} (v2 : Option Nat) (v3 : Option Nat) (H : (if v3 = none then Post (.inl (some (va_rf none))) w else f_getr w v3 23 0 (fun x1 => f_VA E w v2 [(21, m_J6_compareTo), (28, m_J21_compareTo)] d [va_rf x1] (c_i (fun x6 w5 => (if 0 ≤ x6 then (if x6 ≤ 0 then Post (.inl (some (va_rf v3))) w5 else f_getr w5 v3 23 3 (fun x11 => pw_Wp E m_J18_getEntry (d + 1) 28 [none, none, some (va_rf v2), some (va_rf x11), none] [] w5 Post)) else f_getr w5 v3 23 2 (fun x15 => pw_Wp E m_J18_getEntry (d + 1) 28 [none, none, some (va_rf v2), some (va_rf x15), none] [] w5 Post))))))) : pw_Wp E m_J18_getEntry (d + 1) 28 [none, none, some (va_rf v2), some (va_rf v3), none] [] w Post := by
  refine r_aload_n (M := m_J18_getEntry) (pc := 28) dJ18_getEntry_28 3 rfl rfl ?_
  refine r_ifnull (M := m_J18_getEntry) (pc := 29) dJ18_getEntry_29 75 (by decide) (fun hc => ?_) (fun hc => ?_)
  · replace H := f_it H hc
    refine r_null (M := m_J18_getEntry) (pc := 75) dJ18_getEntry_75 ?_
    exact r_areturn (M := m_J18_getEntry) (pc := 76) dJ18_getEntry_76 rfl (by simp) H
  · replace H := f_if H hc
    refine r_aload_n (M := m_J18_getEntry) (pc := 32) dJ18_getEntry_32 2 rfl rfl ?_
    refine r_aload_n (M := m_J18_getEntry) (pc := 33) dJ18_getEntry_33 3 rfl rfl ?_
    obtain ⟨a2, fs3, x1, e9, h4, h4v, H⟩ := H; cases e9
    refine r_get (M := m_J18_getEntry) (pc := 34) dJ18_getEntry_34 "java/util/TreeMap$Entry" 23 0 _ rfl (Nat.le_of_ble_eq_true rfl) q1669 (Or.inl rfl) h4 (Nat.le_of_ble_eq_true rfl) h4v ?_
    obtain ⟨a7, us8, k10, M9, e9, h9, hk9, H⟩ := H; cases e9
    refine r_alt2 hk9 H (nx := pw_nx E m_J18_getEntry (d + 1) 37 5 _ _ Post) (pw_nx_i (fun x6 w5 H1 => ?_)) (fun e9 H => by subst e9; exact r_F (M := m_J18_getEntry) (pc := 37) dJ18_getEntry_37 ⟨"java/lang/Comparable", "compareTo", "(Ljava/lang/Object;)I"⟩ m_J6_compareTo k_J6_compareTo q1411 q1461 21 _ rfl q1459 (pw_fwm 5 rfl) (av := [va_rf _]) (dy := d) (pw_nyt (n := 1) (by decide +kernel) (by decide +kernel)) h9 rfl (pw_c4 (Nat.le_of_ble_eq_true rfl)) (Nat.le_refl _) H) (fun e9 H => by subst e9; exact r_F (M := m_J18_getEntry) (pc := 37) dJ18_getEntry_37 ⟨"java/lang/Comparable", "compareTo", "(Ljava/lang/Object;)I"⟩ m_J21_compareTo k_J21_compareTo q1411 q1448 28 _ rfl q1446 (pw_fwm 6 rfl) (av := [va_rf _]) (dy := d) (pw_nyt (n := 1) (by decide +kernel) (by decide +kernel)) h9 rfl (pw_c4 (Nat.le_of_ble_eq_true rfl)) (Nat.le_refl _) H)
    replace H := H1; clear H1
    refine r_istore (M := m_J18_getEntry) (pc := 42) dJ18_getEntry_42 (Nat.le_of_ble_eq_true rfl) (pw_pre_rf rfl) ?_
    refine r_iload (M := m_J18_getEntry) (pc := 44) dJ18_getEntry_44 rfl ?_
    refine r_if_ge (M := m_J18_getEntry) (pc := 46) dJ18_getEntry_46 57 (by decide) (fun hc => ?_) (fun hc => ?_)
    · replace H := f_it H hc
      refine r_iload (M := m_J18_getEntry) (pc := 57) dJ18_getEntry_57 rfl ?_
      refine r_if_le (M := m_J18_getEntry) (pc := 59) dJ18_getEntry_59 70 (by decide) (fun hc => ?_) (fun hc => ?_)
      · replace H := f_it H hc
        refine r_aload_n (M := m_J18_getEntry) (pc := 70) dJ18_getEntry_70 3 rfl rfl ?_
        exact r_areturn (M := m_J18_getEntry) (pc := 71) dJ18_getEntry_71 rfl (by simp) H
      · replace H := f_if H hc
        refine r_aload_n (M := m_J18_getEntry) (pc := 62) dJ18_getEntry_62 3 rfl rfl ?_
        obtain ⟨a12, fs13, x11, e9, h14, h14v, H⟩ := H; cases e9
        refine r_get (M := m_J18_getEntry) (pc := 63) dJ18_getEntry_63 "java/util/TreeMap$Entry" 23 3 _ rfl (Nat.le_of_ble_eq_true rfl) q1673 (Or.inl rfl) h14 (Nat.le_of_ble_eq_true rfl) h14v ?_
        refine r_astore_n (M := m_J18_getEntry) (pc := 66) dJ18_getEntry_66 3 rfl (Nat.le_of_ble_eq_true rfl) (pw_pre_rf rfl) ?_
        refine r_goto (M := m_J18_getEntry) (pc := 67) dJ18_getEntry_67 72 (by decide) ?_
        refine r_goto (M := m_J18_getEntry) (pc := 72) dJ18_getEntry_72 28 (by decide) ?_
        exact pw_weak (le_n (le_n (le_s (le_s (le_n le_0))))) H
    · replace H := f_if H hc
      refine r_aload_n (M := m_J18_getEntry) (pc := 49) dJ18_getEntry_49 3 rfl rfl ?_
      obtain ⟨a16, fs17, x15, e9, h18, h18v, H⟩ := H; cases e9
      refine r_get (M := m_J18_getEntry) (pc := 50) dJ18_getEntry_50 "java/util/TreeMap$Entry" 23 2 _ rfl (Nat.le_of_ble_eq_true rfl) q1672 (Or.inl rfl) h18 (Nat.le_of_ble_eq_true rfl) h18v ?_
      refine r_astore_n (M := m_J18_getEntry) (pc := 53) dJ18_getEntry_53 3 rfl (Nat.le_of_ble_eq_true rfl) (pw_pre_rf rfl) ?_
      refine r_goto (M := m_J18_getEntry) (pc := 54) dJ18_getEntry_54 72 (by decide) ?_
      refine r_goto (M := m_J18_getEntry) (pc := 72) dJ18_getEntry_72 28 (by decide) ?_
      exact pw_weak (le_n (le_n (le_s (le_s (le_n le_0))))) H
theorem e_J18_getEntry {E : pw_E} {d : Nat} {w : pw_W} {Post : pw_R → pw_W → Prop} (v0 : Option Nat) (v1 : Option Nat) (H : pw_Wp E m_J18_getEntry d 0 [some (va_rf v0), some (va_rf v1), none, none, none] [] w Post) : pw_Cl E m_J18_getEntry d [va_rf v0, va_rf v1] w Post := pw_meth (by decide) rfl (pw_e1 (pw_cat_rf _) (pw_e1 (pw_cat_rf _) (pw_e0 (n := 3)))) H
theorem s_J18_getEntryUsingComparator_0 {E : pw_E} {d : Nat} {w : pw_W} {Post : pw_R → pw_W → Prop} (v0 : Option Nat) (v1 : Option Nat) (H : f_getr w v0 22 2 (fun x1 => (if x1 = none then Post (.inl (some (va_rf none))) w else f_getr w v0 22 3 (fun x5 => pw_Wp E m_J18_getEntryUsingComparator (d + 1) 17 [none, none, some (va_rf v1), some (va_rf x1), some (va_rf x5), none] [] w Post)))) : pw_Wp E m_J18_getEntryUsingComparator (d + 1) 0 [some (va_rf v0), some (va_rf v1), none, none, none, none] [] w Post := by
  refine r_aload_n (M := m_J18_getEntryUsingComparator) (pc := 0) dJ18_getEntryUsingComparator_0 1 rfl rfl ?_
  refine r_astore_n (M := m_J18_getEntryUsingComparator) (pc := 1) dJ18_getEntryUsingComparator_1 2 rfl (Nat.le_of_ble_eq_true rfl) (pw_pre_rf rfl) ?_
  refine r_aload_n (M := m_J18_getEntryUsingComparator) (pc := 2) dJ18_getEntryUsingComparator_2 0 rfl rfl ?_
  obtain ⟨a2, fs3, x1, e9, h4, h4v, H⟩ := H; cases e9
  refine r_get (M := m_J18_getEntryUsingComparator) (pc := 3) dJ18_getEntryUsingComparator_3 "java/util/TreeMap" 22 2 _ rfl (Nat.le_of_ble_eq_true rfl) q1349 (Or.inl rfl) h4 (Nat.le_of_ble_eq_true rfl) h4v ?_
  refine r_astore_n (M := m_J18_getEntryUsingComparator) (pc := 6) dJ18_getEntryUsingComparator_6 3 rfl (Nat.le_of_ble_eq_true rfl) (pw_pre_rf rfl) ?_
  refine r_aload_n (M := m_J18_getEntryUsingComparator) (pc := 7) dJ18_getEntryUsingComparator_7 3 rfl rfl ?_
  refine r_ifnull (M := m_J18_getEntryUsingComparator) (pc := 8) dJ18_getEntryUsingComparator_8 72 (by decide) (fun hc => ?_) (fun hc => ?_)
  · replace H := f_it H hc
    refine r_null (M := m_J18_getEntryUsingComparator) (pc := 72) dJ18_getEntryUsingComparator_72 ?_
    exact r_areturn (M := m_J18_getEntryUsingComparator) (pc := 73) dJ18_getEntryUsingComparator_73 rfl (by simp) H
  · replace H := f_if H hc
    refine r_aload_n (M := m_J18_getEntryUsingComparator) (pc := 11) dJ18_getEntryUsingComparator_11 0 rfl rfl ?_
    obtain ⟨a6, fs7, x5, e9, h8, h8v, H⟩ := H; cases e9
    refine r_get (M := m_J18_getEntryUsingComparator) (pc := 12) dJ18_getEntryUsingComparator_12 "java/util/TreeMap" 22 3 _ rfl (Nat.le_of_ble_eq_true rfl) q1350 (Or.inl rfl) h8 (Nat.le_of_ble_eq_true rfl) h8v ?_
    refine r_astore (M := m_J18_getEntryUsingComparator) (pc := 15) dJ18_getEntryUsingComparator_15 (Nat.le_of_ble_eq_true rfl) (pw_pre_rf rfl) ?_
    exact pw_weak (le_n (le_n (le_s (le_s (le_s (le_n le_0)))))) H
theorem s_J18_getEntryUsingComparator_17 {E : pw_E} {d : Nat} {w : pw_W} {Post : pw_R → pw_W → Prop} (v2 : Option Nat) (v3 : Option Nat) (v4 : Option Nat) (H : (if v4 = none then Post (.inl (some (va_rf none))) w else f_getr w v4 23 0 (fun x1 => f_V E w v3 14 m_X15_compare d [va_rf v2, va_rf x1] (c_i (fun x6 w5 => (if 0 ≤ x6 then (if x6 ≤ 0 then Post (.inl (some (va_rf v4))) w5 else f_getr w5 v4 23 3 (fun x10 => pw_Wp E m_J18_getEntryUsingComparator (d + 1) 17 [none, none, some (va_rf v2), some (va_rf v3), some (va_rf x10), none] [] w5 Post)) else f_getr w5 v4 23 2 (fun x14 => pw_Wp E m_J18_getEntryUsingComparator (d + 1) 17 [none, none, some (va_rf v2), some (va_rf v3), some (va_rf x14), none] [] w5 Post))))))) : pw_Wp E m_J18_getEntryUsingComparator (d + 1) 17 [none, none, some (va_rf v2), some (va_rf v3), some (va_rf v4), none] [] w Post := by
  refine r_aload (M := m_J18_getEntryUsingComparator) (pc := 17) dJ18_getEntryUsingComparator_17 rfl ?_
  refine r_ifnull (M := m_J18_getEntryUsingComparator) (pc := 19) dJ18_getEntryUsingComparator_19 72 (by decide) (fun hc => ?_) (fun hc => ?_)
  · replace H := f_it H hc
    refine r_null (M := m_J18_getEntryUsingComparator) (pc := 72) dJ18_getEntryUsingComparator_72 ?_
    exact r_areturn (M := m_J18_getEntryUsingComparator) (pc := 73) dJ18_getEntryUsingComparator_73 rfl (by simp) H
  · replace H := f_if H hc
    refine r_aload_n (M := m_J18_getEntryUsingComparator) (pc := 22) dJ18_getEntryUsingComparator_22 3 rfl rfl ?_
    refine r_aload_n (M := m_J18_getEntryUsingComparator) (pc := 23) dJ18_getEntryUsingComparator_23 2 rfl rfl ?_
    refine r_aload (M := m_J18_getEntryUsingComparator) (pc := 24) dJ18_getEntryUsingComparator_24 rfl ?_
    obtain ⟨a2, fs3, x1, e9, h4, h4v, H⟩ := H; cases e9
    refine r_get (M := m_J18_getEntryUsingComparator) (pc := 26) dJ18_getEntryUsingComparator_26 "java/util/TreeMap$Entry" 23 0 _ rfl (Nat.le_of_ble_eq_true rfl) q1669 (Or.inl rfl) h4 (Nat.le_of_ble_eq_true rfl) h4v ?_
    obtain ⟨a7, us8, e9, h9, H⟩ := H; cases e9
    refine r_F (M := m_J18_getEntryUsingComparator) (pc := 29) dJ18_getEntryUsingComparator_29 ⟨"java/util/Comparator", "compare", "(Ljava/lang/Object;Ljava/lang/Object;)I"⟩ m_X15_compare k_X15_compare q1388 q1394 14 _ rfl q1392 (pw_fwm 7 rfl) (av := [va_rf _, va_rf _]) (dy := d) (pw_nyt (n := 2) (by decide +kernel) (by decide +kernel)) h9 rfl (pw_c4 (Nat.le_of_ble_eq_true rfl)) (Nat.le_refl _) (H.mono (pw_nx_i (fun x6 w5 H1 => ?_)))
    replace H := H1; clear H1
    refine r_istore (M := m_J18_getEntryUsingComparator) (pc := 34) dJ18_getEntryUsingComparator_34 (Nat.le_of_ble_eq_true rfl) (pw_pre_rf rfl) ?_
    refine r_iload (M := m_J18_getEntryUsingComparator) (pc := 36) dJ18_getEntryUsingComparator_36 rfl ?_
    refine r_if_ge (M := m_J18_getEntryUsingComparator) (pc := 38) dJ18_getEntryUsingComparator_38 51 (by decide) (fun hc => ?_) (fun hc => ?_)
    · replace H := f_it H hc
      refine r_iload (M := m_J18_getEntryUsingComparator) (pc := 51) dJ18_getEntryUsingComparator_51 rfl ?_
      refine r_if_le (M := m_J18_getEntryUsingComparator) (pc := 53) dJ18_getEntryUsingComparator_53 66 (by decide) (fun hc => ?_) (fun hc => ?_)
      · replace H := f_it H hc
        refine r_aload (M := m_J18_getEntryUsingComparator) (pc := 66) dJ18_getEntryUsingComparator_66 rfl ?_
        exact r_areturn (M := m_J18_getEntryUsingComparator) (pc := 68) dJ18_getEntryUsingComparator_68 rfl (by simp) H
      · replace H := f_if H hc
        refine r_aload (M := m_J18_getEntryUsingComparator) (pc := 56) dJ18_getEntryUsingComparator_56 rfl ?_
        obtain ⟨a11, fs12, x10, e9, h13, h13v, H⟩ := H; cases e9
        refine r_get (M := m_J18_getEntryUsingComparator) (pc := 58) dJ18_getEntryUsingComparator_58 "java/util/TreeMap$Entry" 23 3 _ rfl (Nat.le_of_ble_eq_true rfl) q1673 (Or.inl rfl) h13 (Nat.le_of_ble_eq_true rfl) h13v ?_
        refine r_astore (M := m_J18_getEntryUsingComparator) (pc := 61) dJ18_getEntryUsingComparator_61 (Nat.le_of_ble_eq_true rfl) (pw_pre_rf rfl) ?_
        refine r_goto (M := m_J18_getEntryUsingComparator) (pc := 63) dJ18_getEntryUsingComparator_63 69 (by decide) ?_
        refine r_goto (M := m_J18_getEntryUsingComparator) (pc := 69) dJ18_getEntryUsingComparator_69 17 (by decide) ?_
        exact pw_weak (le_n (le_n (le_s (le_s (le_s (le_n le_0)))))) H
    · replace H := f_if H hc
      refine r_aload (M := m_J18_getEntryUsingComparator) (pc := 41) dJ18_getEntryUsingComparator_41 rfl ?_
      obtain ⟨a15, fs16, x14, e9, h17, h17v, H⟩ := H; cases e9
      refine r_get (M := m_J18_getEntryUsingComparator) (pc := 43) dJ18_getEntryUsingComparator_43 "java/util/TreeMap$Entry" 23 2 _ rfl (Nat.le_of_ble_eq_true rfl) q1672 (Or.inl rfl) h17 (Nat.le_of_ble_eq_true rfl) h17v ?_
      refine r_astore (M := m_J18_getEntryUsingComparator) (pc := 46) dJ18_getEntryUsingComparator_46 (Nat.le_of_ble_eq_true rfl) (pw_pre_rf rfl) ?_
      refine r_goto (M := m_J18_getEntryUsingComparator) (pc := 48) dJ18_getEntryUsingComparator_48 69 (by decide) ?_
      refine r_goto (M := m_J18_getEntryUsingComparator) (pc := 69) dJ18_getEntryUsingComparator_69 17 (by decide) ?_
      exact pw_weak (le_n (le_n (le_s (le_s (le_s (le_n le_0)))))) H
theorem e_J18_getEntryUsingComparator {E : pw_E} {d : Nat} {w : pw_W} {Post : pw_R → pw_W → Prop} (v0 : Option Nat) (v1 : Option Nat) (H : pw_Wp E m_J18_getEntryUsingComparator d 0 [some (va_rf v0), some (va_rf v1), none, none, none, none] [] w Post) : pw_Cl E m_J18_getEntryUsingComparator d [va_rf v0, va_rf v1] w Post := pw_meth (by decide) rfl (pw_e1 (pw_cat_rf _) (pw_e1 (pw_cat_rf _) (pw_e0 (n := 4)))) H
theorem s_J18_getFirstEntry_0 {E : pw_E} {d : Nat} {w : pw_W} {Post : pw_R → pw_W → Prop} (v0 : Option Nat) (H : f_getr w v0 22 3 (fun x1 => (if x1 = none then Post (.inl (some (va_rf x1))) w else pw_Wp E m_J18_getFirstEntry (d + 1) 9 [none, some (va_rf x1)] [] w Post))) : pw_Wp E m_J18_getFirstEntry (d + 1) 0 [some (va_rf v0), none] [] w Post := by
  refine r_aload_n (M := m_J18_getFirstEntry) (pc := 0) dJ18_getFirstEntry_0 0 rfl rfl ?_
  obtain ⟨a2, fs3, x1, e9, h4, h4v, H⟩ := H; cases e9
  refine r_get (M := m_J18_getFirstEntry) (pc := 1) dJ18_getFirstEntry_1 "java/util/TreeMap" 22 3 _ rfl (Nat.le_of_ble_eq_true rfl) q1350 (Or.inl rfl) h4 (Nat.le_of_ble_eq_true rfl) h4v ?_
  refine r_astore_n (M := m_J18_getFirstEntry) (pc := 4) dJ18_getFirstEntry_4 1 rfl (Nat.le_of_ble_eq_true rfl) (pw_pre_rf rfl) ?_
  refine r_aload_n (M := m_J18_getFirstEntry) (pc := 5) dJ18_getFirstEntry_5 1 rfl rfl ?_
  refine r_ifnull (M := m_J18_getFirstEntry) (pc := 6) dJ18_getFirstEntry_6 24 (by decide) (fun hc => ?_) (fun hc => ?_)
  · replace H := f_it H hc
    refine r_aload_n (M := m_J18_getFirstEntry) (pc := 24) dJ18_getFirstEntry_24 1 rfl rfl ?_
    exact r_areturn (M := m_J18_getFirstEntry) (pc := 25) dJ18_getFirstEntry_25 rfl (by simp) H
  · replace H := f_if H hc
    exact pw_weak (le_n (le_s le_0)) H
theorem s_J18_getFirstEntry_9 {E : pw_E} {d : Nat} {w : pw_W} {Post : pw_R → pw_W → Prop} (v1 : Option Nat) (H : f_getr w v1 23 2 (fun x1 => (if x1 = none then Post (.inl (some (va_rf v1))) w else f_getr w v1 23 2 (fun x5 => pw_Wp E m_J18_getFirstEntry (d + 1) 9 [none, some (va_rf x5)] [] w Post)))) : pw_Wp E m_J18_getFirstEntry (d + 1) 9 [none, some (va_rf v1)] [] w Post := by
  refine r_aload_n (M := m_J18_getFirstEntry) (pc := 9) dJ18_getFirstEntry_9 1 rfl rfl ?_
  obtain ⟨a2, fs3, x1, e9, h4, h4v, H⟩ := H; cases e9
  refine r_get (M := m_J18_getFirstEntry) (pc := 10) dJ18_getFirstEntry_10 "java/util/TreeMap$Entry" 23 2 _ rfl (Nat.le_of_ble_eq_true rfl) q1672 (Or.inl rfl) h4 (Nat.le_of_ble_eq_true rfl) h4v ?_
  refine r_ifnull (M := m_J18_getFirstEntry) (pc := 13) dJ18_getFirstEntry_13 24 (by decide) (fun hc => ?_) (fun hc => ?_)
  · replace H := f_it H hc
    refine r_aload_n (M := m_J18_getFirstEntry) (pc := 24) dJ18_getFirstEntry_24 1 rfl rfl ?_
    exact r_areturn (M := m_J18_getFirstEntry) (pc := 25) dJ18_getFirstEntry_25 rfl (by simp) H
  · replace H := f_if H hc
    refine r_aload_n (M := m_J18_getFirstEntry) (pc := 16) dJ18_getFirstEntry_16 1 rfl rfl ?_
    obtain ⟨a6, fs7, x5, e9, h8, h8v, H⟩ := H; cases e9
    refine r_get (M := m_J18_getFirstEntry) (pc := 17) dJ18_getFirstEntry_17 "java/util/TreeMap$Entry" 23 2 _ rfl (Nat.le_of_ble_eq_true rfl) q1672 (Or.inl rfl) h8 (Nat.le_of_ble_eq_true rfl) h8v ?_
    refine r_astore_n (M := m_J18_getFirstEntry) (pc := 20) dJ18_getFirstEntry_20 1 rfl (Nat.le_of_ble_eq_true rfl) rfl ?_
    refine r_goto (M := m_J18_getFirstEntry) (pc := 21) dJ18_getFirstEntry_21 9 (by decide) ?_
    exact pw_weak (le_n (le_s le_0)) H
theorem e_J18_getFirstEntry {E : pw_E} {d : Nat} {w : pw_W} {Post : pw_R → pw_W → Prop} (v0 : Option Nat) (H : pw_Wp E m_J18_getFirstEntry d 0 [some (va_rf v0), none] [] w Post) : pw_Cl E m_J18_getFirstEntry d [va_rf v0] w Post := pw_meth (by decide) rfl (pw_e1 (pw_cat_rf _) (pw_e0 (n := 1))) H
theorem s_J18_init_0 {E : pw_E} {d : Nat} {w : pw_W} {Post : pw_R → pw_W → Prop} (a0 : Nat) (H : pw_Cl E m_J17_init d (va_rf (some a0) :: []) w (c_v (fun w1 => f_put E w1 (some a0) 22 4 (.int 0) (fun w5 => f_put E w5 (some a0) 22 5 (.int 0) (fun w9 => f_put E w9 (some a0) 22 2 (va_rf none) (fun w13 => Post (.inl none) w13)))))) : pw_Wp E m_J18_init (d + 1) 0 [some (va_rf (some a0))] [] w Post := by
  refine r_aload_n (M := m_J18_init) (pc := 0) dJ18_init_0 0 rfl rfl ?_
  refine r_I (M := m_J18_init) (pc := 1) dJ18_init_1 m_J17_init k_J17_init rfl rfl q1345 q1346 (av := []) (dy := d) n_J17_init rfl (pw_c4 (Nat.le_of_ble_eq_true rfl)) (Nat.le_refl _) (H.mono (pw_nx_v (fun w1 H1 => ?_)))
  replace H := H1; clear H1
  refine r_aload_n (M := m_J18_init) (pc := 4) dJ18_init_4 0 rfl rfl ?_
  refine r_iconst (M := m_J18_init) (pc := 5) dJ18_init_5 0 rfl ?_
  obtain ⟨a2, fs3, e9, h4, h4b, H⟩ := H; cases e9
  refine r_put (M := m_J18_init) (pc := 6) dJ18_init_6 "java/util/TreeMap" 22 4 _ rfl (Nat.le_of_ble_eq_true rfl) q1351 (Or.inl rfl) rfl h4 (Nat.le_of_ble_eq_true rfl) h4b rfl rfl ?_
  refine r_aload_n (M := m_J18_init) (pc := 9) dJ18_init_9 0 rfl rfl ?_
  refine r_iconst (M := m_J18_init) (pc := 10) dJ18_init_10 0 rfl ?_
  obtain ⟨a6, fs7, e9, h8, h8b, H⟩ := H; cases e9
  refine r_put (M := m_J18_init) (pc := 11) dJ18_init_11 "java/util/TreeMap" 22 5 _ rfl (Nat.le_of_ble_eq_true rfl) q1352 (Or.inl rfl) rfl h8 (Nat.le_of_ble_eq_true rfl) h8b rfl rfl ?_
  refine r_aload_n (M := m_J18_init) (pc := 14) dJ18_init_14 0 rfl rfl ?_
  refine r_null (M := m_J18_init) (pc := 15) dJ18_init_15 ?_
  obtain ⟨a10, fs11, e9, h12, h12b, H⟩ := H; cases e9
  refine r_putF (M := m_J18_init) (pc := 16) dJ18_init_16 "java/util/TreeMap" 22 2 _ rfl (Nat.le_of_ble_eq_true rfl) q1349 (Or.inl rfl) rfl rfl rfl h12 (Nat.le_of_ble_eq_true rfl) h12b (nar_ro _ _) (fit_ro _ _) ?_
  exact r_return (M := m_J18_init) (pc := 19) dJ18_init_19 rfl H
theorem e_J18_init {E : pw_E} {d : Nat} {w : pw_W} {Post : pw_R → pw_W → Prop} (a0 : Nat) (H : pw_Wp E m_J18_init d 0 [some (va_rf (some a0))] [] w Post) : pw_Cl E m_J18_init d [va_rf (some a0)] w Post := pw_meth (by decide) rfl (pw_e1 (pw_cat_rf _) (pw_e0 (n := 0))) H
theorem s_J18_keyIterator_0 {E : pw_E} {d : Nat} {w : pw_W} {Post : pw_R → pw_W → Prop} (v0 : Option Nat) (H : (fun w1 => f_V E w1 v0 22 m_J18_getFirstEntry d [] (c_r (fun o3 w2 => pw_Cl E m_J28_init d (va_rf (some w.2.1) :: [va_rf v0, va_rf o3]) w2 (c_v (fun w7 => Post (.inl (some (va_rf (some w.2.1)))) w7))))) (pw_new w (25, [va_rf none, va_rf none, .int 0, va_rf none]) 4)) : pw_Wp E m_J18_keyIterator (d + 1) 0 [some (va_rf v0)] [] w Post := by
  refine r_new (M := m_J18_keyIterator) (pc := 0) dJ18_keyIterator_0 25 _ rfl (Nat.le_of_ble_eq_true rfl) q1758 q1759 q179 [va_rf none, va_rf none, .int 0, va_rf none] rfl 4 rfl ?_
  refine r_dup (M := m_J18_keyIterator) (pc := 3) dJ18_keyIterator_3 (pw_cat_rf _) ?_
  refine r_aload_n (M := m_J18_keyIterator) (pc := 4) dJ18_keyIterator_4 0 rfl rfl ?_
  refine r_aload_n (M := m_J18_keyIterator) (pc := 5) dJ18_keyIterator_5 0 rfl rfl ?_
  obtain ⟨a4, us5, e9, h6, H⟩ := H; cases e9
  refine r_V (M := m_J18_keyIterator) (pc := 6) dJ18_keyIterator_6 m_J18_getFirstEntry k_J18_getFirstEntry q1760 q1761 22 _ rfl q1762 (av := []) (dy := d) n_J18_getFirstEntry h6 rfl (pw_c4 (Nat.le_of_ble_eq_true rfl)) (Nat.le_refl _) (H.mono (pw_nx_r (fun o3 w2 H1 => ?_)))
  replace H := H1; clear H1
  refine r_I (M := m_J18_keyIterator) (pc := 9) dJ18_keyIterator_9 m_J28_init k_J28_init rfl rfl q1764 q1765 (av := [va_rf _, va_rf _]) (dy := d) n_J28_init rfl (pw_c4 (Nat.le_of_ble_eq_true rfl)) (Nat.le_refl _) (H.mono (pw_nx_v (fun w7 H1 => ?_)))
  replace H := H1; clear H1
  exact r_areturn (M := m_J18_keyIterator) (pc := 12) dJ18_keyIterator_12 rfl (by simp) H
theorem e_J18_keyIterator {E : pw_E} {d : Nat} {w : pw_W} {Post : pw_R → pw_W → Prop} (v0 : Option Nat) (H : pw_Wp E m_J18_keyIterator d 0 [some (va_rf v0)] [] w Post) : pw_Cl E m_J18_keyIterator d [va_rf v0] w Post := pw_meth (by decide) rfl (pw_e1 (pw_cat_rf _) (pw_e0 (n := 0))) H
theorem s_J18_keySet_0 {E : pw_E} {d : Nat} {w : pw_W} {Post : pw_R → pw_W → Prop} (v0 : Option Nat) (H : f_V E w v0 22 m_J18_navigableKeySet d [] (c_r (fun o2 w1 => Post (.inl (some (va_rf o2))) w1))) : pw_Wp E m_J18_keySet (d + 1) 0 [some (va_rf v0)] [] w Post := by
  refine r_aload_n (M := m_J18_keySet) (pc := 0) dJ18_keySet_0 0 rfl rfl ?_
  obtain ⟨a3, us4, e9, h5, H⟩ := H; cases e9
  refine r_V (M := m_J18_keySet) (pc := 1) dJ18_keySet_1 m_J18_navigableKeySet k_J18_navigableKeySet q1726 q1727 22 _ rfl q1728 (av := []) (dy := d) n_J18_navigableKeySet h5 rfl (pw_c4 (Nat.le_of_ble_eq_true rfl)) (Nat.le_refl _) (H.mono (pw_nx_r (fun o2 w1 H1 => ?_)))
  replace H := H1; clear H1
  exact r_areturn (M := m_J18_keySet) (pc := 4) dJ18_keySet_4 rfl (by simp) H
theorem e_J18_keySet {E : pw_E} {d : Nat} {w : pw_W} {Post : pw_R → pw_W → Prop} (v0 : Option Nat) (H : pw_Wp E m_J18_keySet d 0 [some (va_rf v0)] [] w Post) : pw_Cl E m_J18_keySet d [va_rf v0] w Post := pw_meth (by decide) rfl (pw_e1 (pw_cat_rf _) (pw_e0 (n := 0))) H
theorem s_J18_leftOf_0 {E : pw_E} {d : Nat} {w : pw_W} {Post : pw_R → pw_W → Prop} (v0 : Option Nat) (H : (if v0 = none then Post (.inl (some (va_rf none))) w else f_getr w v0 23 2 (fun x1 => Post (.inl (some (va_rf x1))) w))) : pw_Wp E m_J18_leftOf (d + 1) 0 [some (va_rf v0)] [] w Post := by
  refine r_aload_n (M := m_J18_leftOf) (pc := 0) dJ18_leftOf_0 0 rfl rfl ?_
  refine r_ifnonnull (M := m_J18_leftOf) (pc := 1) dJ18_leftOf_1 8 (by decide) (fun hc => ?_) (fun hc => ?_)
  · replace H := f_if H hc
    refine r_aload_n (M := m_J18_leftOf) (pc := 8) dJ18_leftOf_8 0 rfl rfl ?_
    obtain ⟨a2, fs3, x1, e9, h4, h4v, H⟩ := H; cases e9
    refine r_get (M := m_J18_leftOf) (pc := 9) dJ18_leftOf_9 "java/util/TreeMap$Entry" 23 2 _ rfl (Nat.le_of_ble_eq_true rfl) q1672 (Or.inl rfl) h4 (Nat.le_of_ble_eq_true rfl) h4v ?_
    exact r_areturn (M := m_J18_leftOf) (pc := 12) dJ18_leftOf_12 rfl (by simp) H
  · replace H := f_it H hc
    refine r_null (M := m_J18_leftOf) (pc := 4) dJ18_leftOf_4 ?_
    refine r_goto (M := m_J18_leftOf) (pc := 5) dJ18_leftOf_5 12 (by decide) ?_
    exact r_areturn (M := m_J18_leftOf) (pc := 12) dJ18_leftOf_12 rfl (by simp) H
theorem e_J18_leftOf {E : pw_E} {d : Nat} {w : pw_W} {Post : pw_R → pw_W → Prop} (v0 : Option Nat) (H : pw_Wp E m_J18_leftOf d 0 [some (va_rf v0)] [] w Post) : pw_Cl E m_J18_leftOf d [va_rf v0] w Post := pw_meth (by decide) rfl (pw_e1 (pw_cat_rf _) (pw_e0 (n := 0))) H
theorem s_J18_navigableKeySet_0 {E : pw_E} {d : Nat} {w : pw_W} {Post : pw_R → pw_W → Prop} (v0 : Option Nat) (H : f_getr w v0 22 7 (fun x1 => (if x1 = none then (fun w5 => pw_Cl E m_J26_init d (va_rf (some w.2.1) :: [va_rf v0]) w5 (c_v (fun w6 => f_put E w6 v0 22 7 (va_rf (some w.2.1)) (fun w10 => Post (.inl (some (va_rf (some w.2.1)))) w10)))) (pw_new w (24, [va_rf none]) 1) else Post (.inl (some (va_rf x1))) w))) : pw_Wp E m_J18_navigableKeySet (d + 1) 0 [some (va_rf v0), none] [] w Post := by
  refine r_aload_n (M := m_J18_navigableKeySet) (pc := 0) dJ18_navigableKeySet_0 0 rfl rfl ?_
  obtain ⟨a2, fs3, x1, e9, h4, h4v, H⟩ := H; cases e9
  refine r_get (M := m_J18_navigableKeySet) (pc := 1) dJ18_navigableKeySet_1 "java/util/TreeMap" 22 7 _ rfl (Nat.le_of_ble_eq_true rfl) q1354 (Or.inl rfl) h4 (Nat.le_of_ble_eq_true rfl) h4v ?_
  refine r_astore_n (M := m_J18_navigableKeySet) (pc := 4) dJ18_navigableKeySet_4 1 rfl (Nat.le_of_ble_eq_true rfl) (pw_pre_rf rfl) ?_
  refine r_aload_n (M := m_J18_navigableKeySet) (pc := 5) dJ18_navigableKeySet_5 1 rfl rfl ?_
  refine r_ifnull (M := m_J18_navigableKeySet) (pc := 6) dJ18_navigableKeySet_6 13 (by decide) (fun hc => ?_) (fun hc => ?_)
  · replace H := f_it H hc
    refine r_aload_n (M := m_J18_navigableKeySet) (pc := 13) dJ18_navigableKeySet_13 0 rfl rfl ?_
    refine r_new (M := m_J18_navigableKeySet) (pc := 14) dJ18_navigableKeySet_14 24 _ rfl (Nat.le_of_ble_eq_true rfl) q1730 q1731 q177 [va_rf none] rfl 1 rfl ?_
    refine r_dup (M := m_J18_navigableKeySet) (pc := 17) dJ18_navigableKeySet_17 (pw_cat_rf _) ?_
    refine r_aload_n (M := m_J18_navigableKeySet) (pc := 18) dJ18_navigableKeySet_18 0 rfl rfl ?_
    refine r_I (M := m_J18_navigableKeySet) (pc := 19) dJ18_navigableKeySet_19 m_J26_init k_J26_init rfl rfl q1732 q1733 (av := [va_rf _]) (dy := d) n_J26_init rfl (pw_c4 (Nat.le_of_ble_eq_true rfl)) (Nat.le_refl _) (H.mono (pw_nx_v (fun w6 H1 => ?_)))
    replace H := H1; clear H1
    refine r_dup_x1 (M := m_J18_navigableKeySet) (pc := 22) dJ18_navigableKeySet_22 (pw_cat_rf _) (pw_cat_rf _) ?_
    obtain ⟨a7, fs8, e9, h9, h9b, H⟩ := H; cases e9
    refine r_put (M := m_J18_navigableKeySet) (pc := 23) dJ18_navigableKeySet_23 "java/util/TreeMap" 22 7 _ rfl (Nat.le_of_ble_eq_true rfl) q1354 (Or.inl rfl) rfl h9 (Nat.le_of_ble_eq_true rfl) h9b (nar_ro _ _) (fit_ro _ _) ?_
    exact r_areturn (M := m_J18_navigableKeySet) (pc := 26) dJ18_navigableKeySet_26 rfl (by simp) H
  · replace H := f_if H hc
    refine r_aload_n (M := m_J18_navigableKeySet) (pc := 9) dJ18_navigableKeySet_9 1 rfl rfl ?_
    refine r_goto (M := m_J18_navigableKeySet) (pc := 10) dJ18_navigableKeySet_10 26 (by decide) ?_
    exact r_areturn (M := m_J18_navigableKeySet) (pc := 26) dJ18_navigableKeySet_26 rfl (by simp) H
theorem e_J18_navigableKeySet {E : pw_E} {d : Nat} {w : pw_W} {Post : pw_R → pw_W → Prop} (v0 : Option Nat) (H : pw_Wp E m_J18_navigableKeySet d 0 [some (va_rf v0), none] [] w Post) : pw_Cl E m_J18_navigableKeySet d [va_rf v0] w Post := pw_meth (by decide) rfl (pw_e1 (pw_cat_rf _) (pw_e0 (n := 1))) H
theorem s_J18_parentOf_0 {E : pw_E} {d : Nat} {w : pw_W} {Post : pw_R → pw_W → Prop} (v0 : Option Nat) (H : (if v0 = none then Post (.inl (some (va_rf none))) w else f_getr w v0 23 4 (fun x1 => Post (.inl (some (va_rf x1))) w))) : pw_Wp E m_J18_parentOf (d + 1) 0 [some (va_rf v0)] [] w Post := by
  refine r_aload_n (M := m_J18_parentOf) (pc := 0) dJ18_parentOf_0 0 rfl rfl ?_
  refine r_ifnonnull (M := m_J18_parentOf) (pc := 1) dJ18_parentOf_1 8 (by decide) (fun hc => ?_) (fun hc => ?_)
  · replace H := f_if H hc
    refine r_aload_n (M := m_J18_parentOf) (pc := 8) dJ18_parentOf_8 0 rfl rfl ?_
    obtain ⟨a2, fs3, x1, e9, h4, h4v, H⟩ := H; cases e9
    refine r_get (M := m_J18_parentOf) (pc := 9) dJ18_parentOf_9 "java/util/TreeMap$Entry" 23 4 _ rfl (Nat.le_of_ble_eq_true rfl) q1675 (Or.inl rfl) h4 (Nat.le_of_ble_eq_true rfl) h4v ?_
    exact r_areturn (M := m_J18_parentOf) (pc := 12) dJ18_parentOf_12 rfl (by simp) H
  · replace H := f_it H hc
    refine r_null (M := m_J18_parentOf) (pc := 4) dJ18_parentOf_4 ?_
    refine r_goto (M := m_J18_parentOf) (pc := 5) dJ18_parentOf_5 12 (by decide) ?_
    exact r_areturn (M := m_J18_parentOf) (pc := 12) dJ18_parentOf_12 rfl (by simp) H
theorem e_J18_parentOf {E : pw_E} {d : Nat} {w : pw_W} {Post : pw_R → pw_W → Prop} (v0 : Option Nat) (H : pw_Wp E m_J18_parentOf d 0 [some (va_rf v0)] [] w Post) : pw_Cl E m_J18_parentOf d [va_rf v0] w Post := pw_meth (by decide) rfl (pw_e1 (pw_cat_rf _) (pw_e0 (n := 0))) H
theorem s_J18_put_0 {E : pw_E} {d : Nat} {w : pw_W} {Post : pw_R → pw_W → Prop} (v0 : Option Nat) (v1 : Option Nat) (v2 : Option Nat) (H : f_V E w v0 22 m_J18_put_2 d [va_rf v1, va_rf v2, .int 1] (c_r (fun o2 w1 => Post (.inl (some (va_rf o2))) w1))) : pw_Wp E m_J18_put (d + 1) 0 [some (va_rf v0), some (va_rf v1), some (va_rf v2)] [] w Post := by
  refine r_aload_n (M := m_J18_put) (pc := 0) dJ18_put_0 0 rfl rfl ?_
  refine r_aload_n (M := m_J18_put) (pc := 1) dJ18_put_1 1 rfl rfl ?_
  refine r_aload_n (M := m_J18_put) (pc := 2) dJ18_put_2 2 rfl rfl ?_
  refine r_iconst (M := m_J18_put) (pc := 3) dJ18_put_3 1 rfl ?_
  obtain ⟨a3, us4, e9, h5, H⟩ := H; cases e9
  refine r_V (M := m_J18_put) (pc := 4) dJ18_put_4 m_J18_put_2 k_J18_put_2 q1649 q1651 22 _ rfl qs19 (av := [va_rf _, va_rf _, .int _]) (dy := d) n_J18_put_2 h5 rfl (pw_c4 (Nat.le_of_ble_eq_true rfl)) (Nat.le_refl _) (H.mono (pw_nx_r (fun o2 w1 H1 => ?_)))
  replace H := H1; clear H1
  exact r_areturn (M := m_J18_put) (pc := 7) dJ18_put_7 rfl (by simp) H
theorem e_J18_put {E : pw_E} {d : Nat} {w : pw_W} {Post : pw_R → pw_W → Prop} (v0 : Option Nat) (v1 : Option Nat) (v2 : Option Nat) (H : pw_Wp E m_J18_put d 0 [some (va_rf v0), some (va_rf v1), some (va_rf v2)] [] w Post) : pw_Cl E m_J18_put d [va_rf v0, va_rf v1, va_rf v2] w Post := pw_meth (by decide) rfl (pw_e1 (pw_cat_rf _) (pw_e1 (pw_cat_rf _) (pw_e1 (pw_cat_rf _) (pw_e0 (n := 0))))) H
theorem s_J18_put_2_0 {E : pw_E} {d : Nat} {w : pw_W} {Post : pw_R → pw_W → Prop} (v0 : Option Nat) (v1 : Option Nat) (v2 : Option Nat) (v3 : Bool) (H : f_getr w v0 22 3 (fun x1 => (if x1 = none then f_V E w v0 22 m_J18_addEntryToEmptyMap d [va_rf v1, va_rf v2] (c_v (fun w11 => Post (.inl (some (va_rf none))) w11)) else f_getr w v0 22 2 (fun x5 => (if x5 = none then pw_Cl E m_J19_requireNonNull d [va_rf v1] w (c_r (fun o10 w9 => f_cast w9 v1 "java/lang/Comparable" (pw_Wp E m_J18_put_2 (d + 1) 123 [some (va_rf v0), some (va_rf v1), some (va_rf v2), some (.int (bI v3)), some (va_rf x1), none, none, none, some (va_rf v1), none] [] w9 Post))) else pw_Wp E m_J18_put_2 (d + 1) 30 [some (va_rf v0), some (va_rf v1), some (va_rf v2), some (.int (bI v3)), some (va_rf x1), none, none, some (va_rf x5), none, none] [] w Post))))) : pw_Wp E m_J18_put_2 (d + 1) 0 [some (va_rf v0), some (va_rf v1), some (va_rf v2), some (.int (bI v3)), none, none, none, none, none, none] [] w Post := by
  refine r_aload_n (M := m_J18_put_2) (pc := 0) dJ18_put_2_0 0 rfl rfl ?_
  obtain ⟨a2, fs3, x1, e9, h4, h4v, H⟩ := H; cases e9
  refine r_get (M := m_J18_put_2) (pc := 1) dJ18_put_2_1 "java/util/TreeMap" 22 3 _ rfl (Nat.le_of_ble_eq_true rfl) q1350 (Or.inl rfl) h4 (Nat.le_of_ble_eq_true rfl) h4v ?_
  refine r_astore (M := m_J18_put_2) (pc := 4) dJ18_put_2_4 (Nat.le_of_ble_eq_true rfl) rfl ?_
  refine r_aload (M := m_J18_put_2) (pc := 6) dJ18_put_2_6 rfl ?_
  refine r_ifnonnull (M := m_J18_put_2) (pc := 8) dJ18_put_2_8 19 (by decide) (fun hc => ?_) (fun hc => ?_)
  · replace H := f_if H hc
    refine r_aload_n (M := m_J18_put_2) (pc := 19) dJ18_put_2_19 0 rfl rfl ?_
    obtain ⟨a6, fs7, x5, e9, h8, h8v, H⟩ := H; cases e9
    refine r_get (M := m_J18_put_2) (pc := 20) dJ18_put_2_20 "java/util/TreeMap" 22 2 _ rfl (Nat.le_of_ble_eq_true rfl) q1349 (Or.inl rfl) h8 (Nat.le_of_ble_eq_true rfl) h8v ?_
    refine r_astore (M := m_J18_put_2) (pc := 23) dJ18_put_2_23 (Nat.le_of_ble_eq_true rfl) rfl ?_
    refine r_aload (M := m_J18_put_2) (pc := 25) dJ18_put_2_25 rfl ?_
    refine r_ifnull (M := m_J18_put_2) (pc := 27) dJ18_put_2_27 112 (by decide) (fun hc => ?_) (fun hc => ?_)
    · replace H := f_it H hc
      refine r_aload_n (M := m_J18_put_2) (pc := 112) dJ18_put_2_112 1 rfl rfl ?_
      refine r_S (M := m_J18_put_2) (pc := 113) dJ18_put_2_113 m_J19_requireNonNull k_J19_requireNonNull q1406 q1407 (av := [va_rf _]) (dy := d) n_J19_requireNonNull rfl (pw_c4 (Nat.le_of_ble_eq_true rfl)) (Nat.le_refl _) (H.mono (pw_nx_r (fun o10 w9 H1 => ?_)))
      replace H := H1; clear H1
      refine r_pop (M := m_J18_put_2) (pc := 116) dJ18_put_2_116 (pw_cat_rf _) ?_
      refine r_aload_n (M := m_J18_put_2) (pc := 117) dJ18_put_2_117 1 rfl rfl ?_
      obtain ⟨hk, H⟩ := H
      refine r_cast (M := m_J18_put_2) (pc := 118) dJ18_put_2_118 "java/lang/Comparable" q1409 hk ?_
      refine r_astore (M := m_J18_put_2) (pc := 121) dJ18_put_2_121 (Nat.le_of_ble_eq_true rfl) (pw_pre_rf rfl) ?_
      exact pw_weak (le_s (le_s (le_s (le_s (le_s (le_n (le_n (le_n (le_s (le_n le_0)))))))))) H
    · replace H := f_if H hc
      exact pw_weak (le_s (le_s (le_s (le_s (le_s (le_n (le_n (le_s (le_n (le_n le_0)))))))))) H
  · replace H := f_it H hc
    refine r_aload_n (M := m_J18_put_2) (pc := 11) dJ18_put_2_11 0 rfl rfl ?_
    refine r_aload_n (M := m_J18_put_2) (pc := 12) dJ18_put_2_12 1 rfl rfl ?_
    refine r_aload_n (M := m_J18_put_2) (pc := 13) dJ18_put_2_13 2 rfl rfl ?_
    obtain ⟨a12, us13, e9, h14, H⟩ := H; cases e9
    refine r_V (M := m_J18_put_2) (pc := 14) dJ18_put_2_14 m_J18_addEntryToEmptyMap k_J18_addEntryToEmptyMap q1653 q1655 22 _ rfl qs20 (av := [va_rf _, va_rf _]) (dy := d) n_J18_addEntryToEmptyMap h14 rfl (pw_c4 (Nat.le_of_ble_eq_true rfl)) (Nat.le_refl _) (H.mono (pw_nx_v (fun w11 H1 => ?_)))
    replace H := H1; clear H1
    refine r_null (M := m_J18_put_2) (pc := 17) dJ18_put_2_17 ?_
    exact r_areturn (M := m_J18_put_2) (pc := 18) dJ18_put_2_18 rfl (by simp) H
theorem s_J18_put_2_30 {E : pw_E} {d : Nat} {w : pw_W} {Post : pw_R → pw_W → Prop} (v0 : Option Nat) (v1 : Option Nat) (v2 : Option Nat) (v3 : Bool) (v4 : Option Nat) (v7 : Option Nat) (H : f_getr w v4 23 0 (fun x1 => f_V E w v7 14 m_X15_compare d [va_rf v1, va_rf x1] (c_i (fun x6 w5 => (if 0 ≤ x6 then (if x6 ≤ 0 then f_getr w5 v4 23 1 (fun x10 => (if (bI v3) = 0 then (if x10 = none then f_put E w5 v4 23 1 (va_rf v2) (fun w21 => Post (.inl (some (va_rf x10))) w21) else Post (.inl (some (va_rf x10))) w5) else f_put E w5 v4 23 1 (va_rf v2) (fun w17 => Post (.inl (some (va_rf x10))) w17))) else f_getr w5 v4 23 3 (fun x22 => (if x22 = none then (if 0 ≤ x6 then f_V E w5 v0 22 m_J18_addEntry d [va_rf v1, va_rf v2, va_rf v4, .int 0] (c_v (fun w26 => Post (.inl (some (va_rf none))) w26)) else f_V E w5 v0 22 m_J18_addEntry d [va_rf v1, va_rf v2, va_rf v4, .int 1] (c_v (fun w30 => Post (.inl (some (va_rf none))) w30))) else pw_Wp E m_J18_put_2 (d + 1) 30 [some (va_rf v0), some (va_rf v1), some (va_rf v2), some (.int (bI v3)), some (va_rf x22), none, none, some (va_rf v7), none, none] [] w5 Post))) else f_getr w5 v4 23 2 (fun x34 => (if x34 = none then (if 0 ≤ x6 then f_V E w5 v0 22 m_J18_addEntry d [va_rf v1, va_rf v2, va_rf v4, .int 0] (c_v (fun w38 => Post (.inl (some (va_rf none))) w38)) else f_V E w5 v0 22 m_J18_addEntry d [va_rf v1, va_rf v2, va_rf v4, .int 1] (c_v (fun w42 => Post (.inl (some (va_rf none))) w42))) else pw_Wp E m_J18_put_2 (d + 1) 30 [some (va_rf v0), some (va_rf v1), some (va_rf v2), some (.int (bI v3)), some (va_rf x34), none, none, some (va_rf v7), none, none] [] w5 Post))))))) : pw_Wp E m_J18_put_2 (d + 1) 30 [some (va_rf v0), some (va_rf v1), some (va_rf v2), some (.int (bI v3)), some (va_rf v4), none, none, some (va_rf v7), none, none] [] w Post := by
  refine r_aload (M := m_J18_put_2) (pc := 30) dJ18_put_2_30 rfl ?_
  refine r_astore (M := m_J18_put_2) (pc := 32) dJ18_put_2_32 (Nat.le_of_ble_eq_true rfl) rfl ?_
  refine r_aload (M := m_J18_put_2) (pc := 34) dJ18_put_2_34 rfl ?_
  refine r_aload_n (M := m_J18_put_2) (pc := 36) dJ18_put_2_36 1 rfl rfl ?_
  refine r_aload (M := m_J18_put_2) (pc := 37) dJ18_put_2_37 rfl ?_
  obtain ⟨a2, fs3, x1, e9, h4, h4v, H⟩ := H; cases e9
  refine r_get (M := m_J18_put_2) (pc := 39) dJ18_put_2_39 "java/util/TreeMap$Entry" 23 0 _ rfl (Nat.le_of_ble_eq_true rfl) q1669 (Or.inl rfl) h4 (Nat.le_of_ble_eq_true rfl) h4v ?_
  obtain ⟨a7, us8, e9, h9, H⟩ := H; cases e9
  refine r_F (M := m_J18_put_2) (pc := 42) dJ18_put_2_42 ⟨"java/util/Comparator", "compare", "(Ljava/lang/Object;Ljava/lang/Object;)I"⟩ m_X15_compare k_X15_compare q1388 q1394 14 _ rfl q1392 (pw_fwm 7 rfl) (av := [va_rf _, va_rf _]) (dy := d) (pw_nyt (n := 2) (by decide +kernel) (by decide +kernel)) h9 rfl (pw_c4 (Nat.le_of_ble_eq_true rfl)) (Nat.le_refl _) (H.mono (pw_nx_i (fun x6 w5 H1 => ?_)))
  replace H := H1; clear H1
  refine r_istore (M := m_J18_put_2) (pc := 47) dJ18_put_2_47 (Nat.le_of_ble_eq_true rfl) (pw_pre_rf rfl) ?_
  refine r_iload (M := m_J18_put_2) (pc := 49) dJ18_put_2_49 rfl ?_
  refine r_if_ge (M := m_J18_put_2) (pc := 51) dJ18_put_2_51 64 (by decide) (fun hc => ?_) (fun hc => ?_)
  · replace H := f_it H hc
    refine r_iload (M := m_J18_put_2) (pc := 64) dJ18_put_2_64 rfl ?_
    refine r_if_le (M := m_J18_put_2) (pc := 66) dJ18_put_2_66 79 (by decide) (fun hc => ?_) (fun hc => ?_)
    · replace H := f_it H hc
      refine r_aload (M := m_J18_put_2) (pc := 79) dJ18_put_2_79 rfl ?_
      obtain ⟨a11, fs12, x10, e9, h13, h13v, H⟩ := H; cases e9
      refine r_get (M := m_J18_put_2) (pc := 81) dJ18_put_2_81 "java/util/TreeMap$Entry" 23 1 _ rfl (Nat.le_of_ble_eq_true rfl) q1671 (Or.inl rfl) h13 (Nat.le_of_ble_eq_true rfl) h13v ?_
      refine r_astore (M := m_J18_put_2) (pc := 84) dJ18_put_2_84 (Nat.le_of_ble_eq_true rfl) (pw_pre_rf rfl) ?_
      refine r_iload_n (M := m_J18_put_2) (pc := 86) dJ18_put_2_86 3 rfl rfl ?_
      refine r_if_ne (M := m_J18_put_2) (pc := 87) dJ18_put_2_87 95 (by decide) (fun hc => ?_) (fun hc => ?_)
      · replace H := f_if H hc
        refine r_aload (M := m_J18_put_2) (pc := 95) dJ18_put_2_95 rfl ?_
        refine r_aload_n (M := m_J18_put_2) (pc := 97) dJ18_put_2_97 2 rfl rfl ?_
        obtain ⟨a14, fs15, e9, h16, h16b, H⟩ := H; cases e9
        refine r_put (M := m_J18_put_2) (pc := 98) dJ18_put_2_98 "java/util/TreeMap$Entry" 23 1 _ rfl (Nat.le_of_ble_eq_true rfl) q1671 (Or.inl rfl) rfl h16 (Nat.le_of_ble_eq_true rfl) h16b (nar_ro _ _) (fit_ro _ _) ?_
        refine r_aload (M := m_J18_put_2) (pc := 101) dJ18_put_2_101 rfl ?_
        exact r_areturn (M := m_J18_put_2) (pc := 103) dJ18_put_2_103 rfl (by simp) H
      · replace H := f_it H hc
        refine r_aload (M := m_J18_put_2) (pc := 90) dJ18_put_2_90 rfl ?_
        refine r_ifnonnull (M := m_J18_put_2) (pc := 92) dJ18_put_2_92 101 (by decide) (fun hc => ?_) (fun hc => ?_)
        · replace H := f_if H hc
          refine r_aload (M := m_J18_put_2) (pc := 101) dJ18_put_2_101 rfl ?_
          exact r_areturn (M := m_J18_put_2) (pc := 103) dJ18_put_2_103 rfl (by simp) H
        · replace H := f_it H hc
          refine r_aload (M := m_J18_put_2) (pc := 95) dJ18_put_2_95 rfl ?_
          refine r_aload_n (M := m_J18_put_2) (pc := 97) dJ18_put_2_97 2 rfl rfl ?_
          obtain ⟨a18, fs19, e9, h20, h20b, H⟩ := H; cases e9
          refine r_put (M := m_J18_put_2) (pc := 98) dJ18_put_2_98 "java/util/TreeMap$Entry" 23 1 _ rfl (Nat.le_of_ble_eq_true rfl) q1671 (Or.inl rfl) rfl h20 (Nat.le_of_ble_eq_true rfl) h20b (nar_ro _ _) (fit_ro _ _) ?_
          refine r_aload (M := m_J18_put_2) (pc := 101) dJ18_put_2_101 rfl ?_
          exact r_areturn (M := m_J18_put_2) (pc := 103) dJ18_put_2_103 rfl (by simp) H
    · replace H := f_if H hc
      refine r_aload (M := m_J18_put_2) (pc := 69) dJ18_put_2_69 rfl ?_
      obtain ⟨a23, fs24, x22, e9, h25, h25v, H⟩ := H; cases e9
      refine r_get (M := m_J18_put_2) (pc := 71) dJ18_put_2_71 "java/util/TreeMap$Entry" 23 3 _ rfl (Nat.le_of_ble_eq_true rfl) q1673 (Or.inl rfl) h25 (Nat.le_of_ble_eq_true rfl) h25v ?_
      refine r_astore (M := m_J18_put_2) (pc := 74) dJ18_put_2_74 (Nat.le_of_ble_eq_true rfl) rfl ?_
      refine r_goto (M := m_J18_put_2) (pc := 76) dJ18_put_2_76 104 (by decide) ?_
      refine r_aload (M := m_J18_put_2) (pc := 104) dJ18_put_2_104 rfl ?_
      refine r_ifnonnull (M := m_J18_put_2) (pc := 106) dJ18_put_2_106 30 (by decide) (fun hc => ?_) (fun hc => ?_)
      · replace H := f_if H hc
        exact pw_weak (le_s (le_s (le_s (le_s (le_s (le_n (le_n (le_s (le_n (le_n le_0)))))))))) H
      · replace H := f_it H hc
        refine r_goto (M := m_J18_put_2) (pc := 109) dJ18_put_2_109 201 (by decide) ?_
        refine r_aload_n (M := m_J18_put_2) (pc := 201) dJ18_put_2_201 0 rfl rfl ?_
        refine r_aload_n (M := m_J18_put_2) (pc := 202) dJ18_put_2_202 1 rfl rfl ?_
        refine r_aload_n (M := m_J18_put_2) (pc := 203) dJ18_put_2_203 2 rfl rfl ?_
        refine r_aload (M := m_J18_put_2) (pc := 204) dJ18_put_2_204 rfl ?_
        refine r_iload (M := m_J18_put_2) (pc := 206) dJ18_put_2_206 rfl ?_
        refine r_if_ge (M := m_J18_put_2) (pc := 208) dJ18_put_2_208 215 (by decide) (fun hc => ?_) (fun hc => ?_)
        · replace H := f_it H hc
          refine r_iconst (M := m_J18_put_2) (pc := 215) dJ18_put_2_215 0 rfl ?_
          obtain ⟨a27, us28, e9, h29, H⟩ := H; cases e9
          refine r_V (M := m_J18_put_2) (pc := 216) dJ18_put_2_216 m_J18_addEntry k_J18_addEntry q1691 q1693 22 _ rfl qs21 (av := [va_rf _, va_rf _, va_rf _, .int _]) (dy := d) n_J18_addEntry h29 rfl (pw_c4 (Nat.le_of_ble_eq_true rfl)) (Nat.le_refl _) (H.mono (pw_nx_v (fun w26 H1 => ?_)))
          replace H := H1; clear H1
          refine r_null (M := m_J18_put_2) (pc := 219) dJ18_put_2_219 ?_
          exact r_areturn (M := m_J18_put_2) (pc := 220) dJ18_put_2_220 rfl (by simp) H
        · replace H := f_if H hc
          refine r_iconst (M := m_J18_put_2) (pc := 211) dJ18_put_2_211 1 rfl ?_
          refine r_goto (M := m_J18_put_2) (pc := 212) dJ18_put_2_212 216 (by decide) ?_
          obtain ⟨a31, us32, e9, h33, H⟩ := H; cases e9
          refine r_V (M := m_J18_put_2) (pc := 216) dJ18_put_2_216 m_J18_addEntry k_J18_addEntry q1691 q1693 22 _ rfl qs21 (av := [va_rf _, va_rf _, va_rf _, .int _]) (dy := d) n_J18_addEntry h33 rfl (pw_c4 (Nat.le_of_ble_eq_true rfl)) (Nat.le_refl _) (H.mono (pw_nx_v (fun w30 H1 => ?_)))
          replace H := H1; clear H1
          refine r_null (M := m_J18_put_2) (pc := 219) dJ18_put_2_219 ?_
          exact r_areturn (M := m_J18_put_2) (pc := 220) dJ18_put_2_220 rfl (by simp) H
  · replace H := f_if H hc
    refine r_aload (M := m_J18_put_2) (pc := 54) dJ18_put_2_54 rfl ?_
    obtain ⟨a35, fs36, x34, e9, h37, h37v, H⟩ := H; cases e9
    refine r_get (M := m_J18_put_2) (pc := 56) dJ18_put_2_56 "java/util/TreeMap$Entry" 23 2 _ rfl (Nat.le_of_ble_eq_true rfl) q1672 (Or.inl rfl) h37 (Nat.le_of_ble_eq_true rfl) h37v ?_
    refine r_astore (M := m_J18_put_2) (pc := 59) dJ18_put_2_59 (Nat.le_of_ble_eq_true rfl) rfl ?_
    refine r_goto (M := m_J18_put_2) (pc := 61) dJ18_put_2_61 104 (by decide) ?_
    refine r_aload (M := m_J18_put_2) (pc := 104) dJ18_put_2_104 rfl ?_
    refine r_ifnonnull (M := m_J18_put_2) (pc := 106) dJ18_put_2_106 30 (by decide) (fun hc => ?_) (fun hc => ?_)
    · replace H := f_if H hc
      exact pw_weak (le_s (le_s (le_s (le_s (le_s (le_n (le_n (le_s (le_n (le_n le_0)))))))))) H
    · replace H := f_it H hc
      refine r_goto (M := m_J18_put_2) (pc := 109) dJ18_put_2_109 201 (by decide) ?_
      refine r_aload_n (M := m_J18_put_2) (pc := 201) dJ18_put_2_201 0 rfl rfl ?_
      refine r_aload_n (M := m_J18_put_2) (pc := 202) dJ18_put_2_202 1 rfl rfl ?_
      refine r_aload_n (M := m_J18_put_2) (pc := 203) dJ18_put_2_203 2 rfl rfl ?_
      refine r_aload (M := m_J18_put_2) (pc := 204) dJ18_put_2_204 rfl ?_
      refine r_iload (M := m_J18_put_2) (pc := 206) dJ18_put_2_206 rfl ?_
      refine r_if_ge (M := m_J18_put_2) (pc := 208) dJ18_put_2_208 215 (by decide) (fun hc => ?_) (fun hc => ?_)
      · replace H := f_it H hc
        refine r_iconst (M := m_J18_put_2) (pc := 215) dJ18_put_2_215 0 rfl ?_
        obtain ⟨a39, us40, e9, h41, H⟩ := H; cases e9
        refine r_V (M := m_J18_put_2) (pc := 216) dJ18_put_2_216 m_J18_addEntry k_J18_addEntry q1691 q1693 22 _ rfl qs21 (av := [va_rf _, va_rf _, va_rf _, .int _]) (dy := d) n_J18_addEntry h41 rfl (pw_c4 (Nat.le_of_ble_eq_true rfl)) (Nat.le_refl _) (H.mono (pw_nx_v (fun w38 H1 => ?_)))
        replace H := H1; clear H1
        refine r_null (M := m_J18_put_2) (pc := 219) dJ18_put_2_219 ?_
        exact r_areturn (M := m_J18_put_2) (pc := 220) dJ18_put_2_220 rfl (by simp) H
      · replace H := f_if H hc
        refine r_iconst (M := m_J18_put_2) (pc := 211) dJ18_put_2_211 1 rfl ?_
        refine r_goto (M := m_J18_put_2) (pc := 212) dJ18_put_2_212 216 (by decide) ?_
        obtain ⟨a43, us44, e9, h45, H⟩ := H; cases e9
        refine r_V (M := m_J18_put_2) (pc := 216) dJ18_put_2_216 m_J18_addEntry k_J18_addEntry q1691 q1693 22 _ rfl qs21 (av := [va_rf _, va_rf _, va_rf _, .int _]) (dy := d) n_J18_addEntry h45 rfl (pw_c4 (Nat.le_of_ble_eq_true rfl)) (Nat.le_refl _) (H.mono (pw_nx_v (fun w42 H1 => ?_)))
        replace H := H1; clear H1
        refine r_null (M := m_J18_put_2) (pc := 219) dJ18_put_2_219 ?_
        exact r_areturn (M := m_J18_put_2) (pc := 220) dJ18_put_2_220 rfl (by simp) H
theorem s_J18_put_2_123 {E : pw_E} {d : Nat} {w : pw_W} {Post : pw_R → pw_W → Prop} (v0 : Option Nat) (v1 : Option Nat) (v2 : Option Nat) (v3 : Bool) (v4 : Option Nat) (v8 : Option Nat) (H : f_getr w v4 23 0 (fun x1 => f_VA E w v8 [(21, m_J6_compareTo), (28, m_J21_compareTo)] d [va_rf x1] (c_i (fun x6 w5 => (if 0 ≤ x6 then (if x6 ≤ 0 then f_getr w5 v4 23 1 (fun x11 => (if (bI v3) = 0 then (if x11 = none then f_put E w5 v4 23 1 (va_rf v2) (fun w22 => Post (.inl (some (va_rf x11))) w22) else Post (.inl (some (va_rf x11))) w5) else f_put E w5 v4 23 1 (va_rf v2) (fun w18 => Post (.inl (some (va_rf x11))) w18))) else f_getr w5 v4 23 3 (fun x23 => (if x23 = none then (if 0 ≤ x6 then f_V E w5 v0 22 m_J18_addEntry d [va_rf v1, va_rf v2, va_rf v4, .int 0] (c_v (fun w27 => Post (.inl (some (va_rf none))) w27)) else f_V E w5 v0 22 m_J18_addEntry d [va_rf v1, va_rf v2, va_rf v4, .int 1] (c_v (fun w31 => Post (.inl (some (va_rf none))) w31))) else pw_Wp E m_J18_put_2 (d + 1) 123 [some (va_rf v0), some (va_rf v1), some (va_rf v2), some (.int (bI v3)), some (va_rf x23), none, none, none, some (va_rf v8), none] [] w5 Post))) else f_getr w5 v4 23 2 (fun x35 => (if x35 = none then (if 0 ≤ x6 then f_V E w5 v0 22 m_J18_addEntry d [va_rf v1, va_rf v2, va_rf v4, .int 0] (c_v (fun w39 => Post (.inl (some (va_rf none))) w39)) else f_V E w5 v0 22 m_J18_addEntry d [va_rf v1, va_rf v2, va_rf v4, .int 1] (c_v (fun w43 => Post (.inl (some (va_rf none))) w43))) else pw_Wp E m_J18_put_2 (d + 1) 123 [some (va_rf v0), some (va_rf v1), some (va_rf v2), some (.int (bI v3)), some (va_rf x35), none, none, none, some (va_rf v8), none] [] w5 Post))))))) : pw_Wp E m_J18_put_2 (d + 1) 123 [some (va_rf v0), some (va_rf v1), some (va_rf v2), some (.int (bI v3)), some (va_rf v4), none, none, none, some (va_rf v8), none] [] w Post := by
  refine r_aload (M := m_J18_put_2) (pc := 123) dJ18_put_2_123 rfl ?_
  refine r_astore (M := m_J18_put_2) (pc := 125) dJ18_put_2_125 (Nat.le_of_ble_eq_true rfl) rfl ?_
  refine r_aload (M := m_J18_put_2) (pc := 127) dJ18_put_2_127 rfl ?_
  refine r_aload (M := m_J18_put_2) (pc := 129) dJ18_put_2_129 rfl ?_
  obtain ⟨a2, fs3, x1, e9, h4, h4v, H⟩ := H; cases e9
  refine r_get (M := m_J18_put_2) (pc := 131) dJ18_put_2_131 "java/util/TreeMap$Entry" 23 0 _ rfl (Nat.le_of_ble_eq_true rfl) q1669 (Or.inl rfl) h4 (Nat.le_of_ble_eq_true rfl) h4v ?_
  obtain ⟨a7, us8, k10, M9, e9, h9, hk9, H⟩ := H; cases e9
  refine r_alt2 hk9 H (nx := pw_nx E m_J18_put_2 (d + 1) 134 5 _ _ Post) (pw_nx_i (fun x6 w5 H1 => ?_)) (fun e9 H => by subst e9; exact r_F (M := m_J18_put_2) (pc := 134) dJ18_put_2_134 ⟨"java/lang/Comparable", "compareTo", "(Ljava/lang/Object;)I"⟩ m_J6_compareTo k_J6_compareTo q1411 q1461 21 _ rfl q1459 (pw_fwm 5 rfl) (av := [va_rf _]) (dy := d) (pw_nyt (n := 1) (by decide +kernel) (by decide +kernel)) h9 rfl (pw_c4 (Nat.le_of_ble_eq_true rfl)) (Nat.le_refl _) H) (fun e9 H => by subst e9; exact r_F (M := m_J18_put_2) (pc := 134) dJ18_put_2_134 ⟨"java/lang/Comparable", "compareTo", "(Ljava/lang/Object;)I"⟩ m_J21_compareTo k_J21_compareTo q1411 q1448 28 _ rfl q1446 (pw_fwm 6 rfl) (av := [va_rf _]) (dy := d) (pw_nyt (n := 1) (by decide +kernel) (by decide +kernel)) h9 rfl (pw_c4 (Nat.le_of_ble_eq_true rfl)) (Nat.le_refl _) H)
  replace H := H1; clear H1
  refine r_istore (M := m_J18_put_2) (pc := 139) dJ18_put_2_139 (Nat.le_of_ble_eq_true rfl) (pw_pre_rf rfl) ?_
  refine r_iload (M := m_J18_put_2) (pc := 141) dJ18_put_2_141 rfl ?_
  refine r_if_ge (M := m_J18_put_2) (pc := 143) dJ18_put_2_143 156 (by decide) (fun hc => ?_) (fun hc => ?_)
  · replace H := f_it H hc
    refine r_iload (M := m_J18_put_2) (pc := 156) dJ18_put_2_156 rfl ?_
    refine r_if_le (M := m_J18_put_2) (pc := 158) dJ18_put_2_158 171 (by decide) (fun hc => ?_) (fun hc => ?_)
    · replace H := f_it H hc
      refine r_aload (M := m_J18_put_2) (pc := 171) dJ18_put_2_171 rfl ?_
      obtain ⟨a12, fs13, x11, e9, h14, h14v, H⟩ := H; cases e9
      refine r_get (M := m_J18_put_2) (pc := 173) dJ18_put_2_173 "java/util/TreeMap$Entry" 23 1 _ rfl (Nat.le_of_ble_eq_true rfl) q1671 (Or.inl rfl) h14 (Nat.le_of_ble_eq_true rfl) h14v ?_
      refine r_astore (M := m_J18_put_2) (pc := 176) dJ18_put_2_176 (Nat.le_of_ble_eq_true rfl) (pw_pre_rf rfl) ?_
      refine r_iload_n (M := m_J18_put_2) (pc := 178) dJ18_put_2_178 3 rfl rfl ?_
      refine r_if_ne (M := m_J18_put_2) (pc := 179) dJ18_put_2_179 187 (by decide) (fun hc => ?_) (fun hc => ?_)
      · replace H := f_if H hc
        refine r_aload (M := m_J18_put_2) (pc := 187) dJ18_put_2_187 rfl ?_
        refine r_aload_n (M := m_J18_put_2) (pc := 189) dJ18_put_2_189 2 rfl rfl ?_
        obtain ⟨a15, fs16, e9, h17, h17b, H⟩ := H; cases e9
        refine r_put (M := m_J18_put_2) (pc := 190) dJ18_put_2_190 "java/util/TreeMap$Entry" 23 1 _ rfl (Nat.le_of_ble_eq_true rfl) q1671 (Or.inl rfl) rfl h17 (Nat.le_of_ble_eq_true rfl) h17b (nar_ro _ _) (fit_ro _ _) ?_
        refine r_aload (M := m_J18_put_2) (pc := 193) dJ18_put_2_193 rfl ?_
        exact r_areturn (M := m_J18_put_2) (pc := 195) dJ18_put_2_195 rfl (by simp) H
      · replace H := f_it H hc
        refine r_aload (M := m_J18_put_2) (pc := 182) dJ18_put_2_182 rfl ?_
        refine r_ifnonnull (M := m_J18_put_2) (pc := 184) dJ18_put_2_184 193 (by decide) (fun hc => ?_) (fun hc => ?_)
        · replace H := f_if H hc
          refine r_aload (M := m_J18_put_2) (pc := 193) dJ18_put_2_193 rfl ?_
          exact r_areturn (M := m_J18_put_2) (pc := 195) dJ18_put_2_195 rfl (by simp) H
        · replace H := f_it H hc
          refine r_aload (M := m_J18_put_2) (pc := 187) dJ18_put_2_187 rfl ?_
          refine r_aload_n (M := m_J18_put_2) (pc := 189) dJ18_put_2_189 2 rfl rfl ?_
          obtain ⟨a19, fs20, e9, h21, h21b, H⟩ := H; cases e9
          refine r_put (M := m_J18_put_2) (pc := 190) dJ18_put_2_190 "java/util/TreeMap$Entry" 23 1 _ rfl (Nat.le_of_ble_eq_true rfl) q1671 (Or.inl rfl) rfl h21 (Nat.le_of_ble_eq_true rfl) h21b (nar_ro _ _) (fit_ro _ _) ?_
          refine r_aload (M := m_J18_put_2) (pc := 193) dJ18_put_2_193 rfl ?_
          exact r_areturn (M := m_J18_put_2) (pc := 195) dJ18_put_2_195 rfl (by simp) H
    · replace H := f_if H hc
      refine r_aload (M := m_J18_put_2) (pc := 161) dJ18_put_2_161 rfl ?_
      obtain ⟨a24, fs25, x23, e9, h26, h26v, H⟩ := H; cases e9
      refine r_get (M := m_J18_put_2) (pc := 163) dJ18_put_2_163 "java/util/TreeMap$Entry" 23 3 _ rfl (Nat.le_of_ble_eq_true rfl) q1673 (Or.inl rfl) h26 (Nat.le_of_ble_eq_true rfl) h26v ?_
      refine r_astore (M := m_J18_put_2) (pc := 166) dJ18_put_2_166 (Nat.le_of_ble_eq_true rfl) rfl ?_
      refine r_goto (M := m_J18_put_2) (pc := 168) dJ18_put_2_168 196 (by decide) ?_
      refine r_aload (M := m_J18_put_2) (pc := 196) dJ18_put_2_196 rfl ?_
      refine r_ifnonnull (M := m_J18_put_2) (pc := 198) dJ18_put_2_198 123 (by decide) (fun hc => ?_) (fun hc => ?_)
      · replace H := f_if H hc
        exact pw_weak (le_s (le_s (le_s (le_s (le_s (le_n (le_n (le_n (le_s (le_n le_0)))))))))) H
      · replace H := f_it H hc
        refine r_aload_n (M := m_J18_put_2) (pc := 201) dJ18_put_2_201 0 rfl rfl ?_
        refine r_aload_n (M := m_J18_put_2) (pc := 202) dJ18_put_2_202 1 rfl rfl ?_
        refine r_aload_n (M := m_J18_put_2) (pc := 203) dJ18_put_2_203 2 rfl rfl ?_
        refine r_aload (M := m_J18_put_2) (pc := 204) dJ18_put_2_204 rfl ?_
        refine r_iload (M := m_J18_put_2) (pc := 206) dJ18_put_2_206 rfl ?_
        refine r_if_ge (M := m_J18_put_2) (pc := 208) dJ18_put_2_208 215 (by decide) (fun hc => ?_) (fun hc => ?_)
        · replace H := f_it H hc
          refine r_iconst (M := m_J18_put_2) (pc := 215) dJ18_put_2_215 0 rfl ?_
          obtain ⟨a28, us29, e9, h30, H⟩ := H; cases e9
          refine r_V (M := m_J18_put_2) (pc := 216) dJ18_put_2_216 m_J18_addEntry k_J18_addEntry q1691 q1693 22 _ rfl qs21 (av := [va_rf _, va_rf _, va_rf _, .int _]) (dy := d) n_J18_addEntry h30 rfl (pw_c4 (Nat.le_of_ble_eq_true rfl)) (Nat.le_refl _) (H.mono (pw_nx_v (fun w27 H1 => ?_)))
          replace H := H1; clear H1
          refine r_null (M := m_J18_put_2) (pc := 219) dJ18_put_2_219 ?_
          exact r_areturn (M := m_J18_put_2) (pc := 220) dJ18_put_2_220 rfl (by simp) H
        · replace H := f_if H hc
          refine r_iconst (M := m_J18_put_2) (pc := 211) dJ18_put_2_211 1 rfl ?_
          refine r_goto (M := m_J18_put_2) (pc := 212) dJ18_put_2_212 216 (by decide) ?_
          obtain ⟨a32, us33, e9, h34, H⟩ := H; cases e9
          refine r_V (M := m_J18_put_2) (pc := 216) dJ18_put_2_216 m_J18_addEntry k_J18_addEntry q1691 q1693 22 _ rfl qs21 (av := [va_rf _, va_rf _, va_rf _, .int _]) (dy := d) n_J18_addEntry h34 rfl (pw_c4 (Nat.le_of_ble_eq_true rfl)) (Nat.le_refl _) (H.mono (pw_nx_v (fun w31 H1 => ?_)))
          replace H := H1; clear H1
          refine r_null (M := m_J18_put_2) (pc := 219) dJ18_put_2_219 ?_
          exact r_areturn (M := m_J18_put_2) (pc := 220) dJ18_put_2_220 rfl (by simp) H
  · replace H := f_if H hc
    refine r_aload (M := m_J18_put_2) (pc := 146) dJ18_put_2_146 rfl ?_
    obtain ⟨a36, fs37, x35, e9, h38, h38v, H⟩ := H; cases e9
    refine r_get (M := m_J18_put_2) (pc := 148) dJ18_put_2_148 "java/util/TreeMap$Entry" 23 2 _ rfl (Nat.le_of_ble_eq_true rfl) q1672 (Or.inl rfl) h38 (Nat.le_of_ble_eq_true rfl) h38v ?_
    refine r_astore (M := m_J18_put_2) (pc := 151) dJ18_put_2_151 (Nat.le_of_ble_eq_true rfl) rfl ?_
    refine r_goto (M := m_J18_put_2) (pc := 153) dJ18_put_2_153 196 (by decide) ?_
    refine r_aload (M := m_J18_put_2) (pc := 196) dJ18_put_2_196 rfl ?_
    refine r_ifnonnull (M := m_J18_put_2) (pc := 198) dJ18_put_2_198 123 (by decide) (fun hc => ?_) (fun hc => ?_)
    · replace H := f_if H hc
      exact pw_weak (le_s (le_s (le_s (le_s (le_s (le_n (le_n (le_n (le_s (le_n le_0)))))))))) H
    · replace H := f_it H hc
      refine r_aload_n (M := m_J18_put_2) (pc := 201) dJ18_put_2_201 0 rfl rfl ?_
      refine r_aload_n (M := m_J18_put_2) (pc := 202) dJ18_put_2_202 1 rfl rfl ?_
      refine r_aload_n (M := m_J18_put_2) (pc := 203) dJ18_put_2_203 2 rfl rfl ?_
      refine r_aload (M := m_J18_put_2) (pc := 204) dJ18_put_2_204 rfl ?_
      refine r_iload (M := m_J18_put_2) (pc := 206) dJ18_put_2_206 rfl ?_
      refine r_if_ge (M := m_J18_put_2) (pc := 208) dJ18_put_2_208 215 (by decide) (fun hc => ?_) (fun hc => ?_)
      · replace H := f_it H hc
        refine r_iconst (M := m_J18_put_2) (pc := 215) dJ18_put_2_215 0 rfl ?_
        obtain ⟨a40, us41, e9, h42, H⟩ := H; cases e9
        refine r_V (M := m_J18_put_2) (pc := 216) dJ18_put_2_216 m_J18_addEntry k_J18_addEntry q1691 q1693 22 _ rfl qs21 (av := [va_rf _, va_rf _, va_rf _, .int _]) (dy := d) n_J18_addEntry h42 rfl (pw_c4 (Nat.le_of_ble_eq_true rfl)) (Nat.le_refl _) (H.mono (pw_nx_v (fun w39 H1 => ?_)))
        replace H := H1; clear H1
        refine r_null (M := m_J18_put_2) (pc := 219) dJ18_put_2_219 ?_
        exact r_areturn (M := m_J18_put_2) (pc := 220) dJ18_put_2_220 rfl (by simp) H
      · replace H := f_if H hc
        refine r_iconst (M := m_J18_put_2) (pc := 211) dJ18_put_2_211 1 rfl ?_
        refine r_goto (M := m_J18_put_2) (pc := 212) dJ18_put_2_212 216 (by decide) ?_
        obtain ⟨a44, us45, e9, h46, H⟩ := H; cases e9
        refine r_V (M := m_J18_put_2) (pc := 216) dJ18_put_2_216 m_J18_addEntry k_J18_addEntry q1691 q1693 22 _ rfl qs21 (av := [va_rf _, va_rf _, va_rf _, .int _]) (dy := d) n_J18_addEntry h46 rfl (pw_c4 (Nat.le_of_ble_eq_true rfl)) (Nat.le_refl _) (H.mono (pw_nx_v (fun w43 H1 => ?_)))
        replace H := H1; clear H1
        refine r_null (M := m_J18_put_2) (pc := 219) dJ18_put_2_219 ?_
        exact r_areturn (M := m_J18_put_2) (pc := 220) dJ18_put_2_220 rfl (by simp) H
theorem e_J18_put_2 {E : pw_E} {d : Nat} {w : pw_W} {Post : pw_R → pw_W → Prop} (v0 : Option Nat) (v1 : Option Nat) (v2 : Option Nat) (v3 : Bool) (H : pw_Wp E m_J18_put_2 d 0 [some (va_rf v0), some (va_rf v1), some (va_rf v2), some (.int (bI v3)), none, none, none, none, none, none] [] w Post) : pw_Cl E m_J18_put_2 d [va_rf v0, va_rf v1, va_rf v2, .int (bI v3)] w Post := pw_meth (by decide) rfl (pw_e1 (pw_cat_rf _) (pw_e1 (pw_cat_rf _) (pw_e1 (pw_cat_rf _) (pw_e1 rfl (pw_e0 (n := 6)))))) H
theorem s_J18_rightOf_0 {E : pw_E} {d : Nat} {w : pw_W} {Post : pw_R → pw_W → Prop} (v0 : Option Nat) (H : (if v0 = none then Post (.inl (some (va_rf none))) w else f_getr w v0 23 3 (fun x1 => Post (.inl (some (va_rf x1))) w))) : pw_Wp E m_J18_rightOf (d + 1) 0 [some (va_rf v0)] [] w Post := by
  refine r_aload_n (M := m_J18_rightOf) (pc := 0) dJ18_rightOf_0 0 rfl rfl ?_
  refine r_ifnonnull (M := m_J18_rightOf) (pc := 1) dJ18_rightOf_1 8 (by decide) (fun hc => ?_) (fun hc => ?_)
  · replace H := f_if H hc
    refine r_aload_n (M := m_J18_rightOf) (pc := 8) dJ18_rightOf_8 0 rfl rfl ?_
    obtain ⟨a2, fs3, x1, e9, h4, h4v, H⟩ := H; cases e9
    refine r_get (M := m_J18_rightOf) (pc := 9) dJ18_rightOf_9 "java/util/TreeMap$Entry" 23 3 _ rfl (Nat.le_of_ble_eq_true rfl) q1673 (Or.inl rfl) h4 (Nat.le_of_ble_eq_true rfl) h4v ?_
    exact r_areturn (M := m_J18_rightOf) (pc := 12) dJ18_rightOf_12 rfl (by simp) H
  · replace H := f_it H hc
    refine r_null (M := m_J18_rightOf) (pc := 4) dJ18_rightOf_4 ?_
    refine r_goto (M := m_J18_rightOf) (pc := 5) dJ18_rightOf_5 12 (by decide) ?_
    exact r_areturn (M := m_J18_rightOf) (pc := 12) dJ18_rightOf_12 rfl (by simp) H
theorem e_J18_rightOf {E : pw_E} {d : Nat} {w : pw_W} {Post : pw_R → pw_W → Prop} (v0 : Option Nat) (H : pw_Wp E m_J18_rightOf d 0 [some (va_rf v0)] [] w Post) : pw_Cl E m_J18_rightOf d [va_rf v0] w Post := pw_meth (by decide) rfl (pw_e1 (pw_cat_rf _) (pw_e0 (n := 0))) H
theorem s_J18_rotateLeft_0 {E : pw_E} {d : Nat} {w : pw_W} {Post : pw_R → pw_W → Prop} (v0 : Option Nat) (v1 : Option Nat) (H : (if v1 = none then Post (.inl none) w else f_getr w v1 23 3 (fun x1 => f_getr w x1 23 2 (fun x5 => f_put E w v1 23 3 (va_rf x5) (fun w12 => f_getr w12 x1 23 2 (fun x13 => (if x13 = none then f_getr w12 v1 23 4 (fun x17 => f_put E w12 x1 23 4 (va_rf x17) (fun w24 => f_getr w24 v1 23 4 (fun x25 => (if x25 = none then f_put E w24 v0 22 3 (va_rf x1) (fun w72 => f_put E w72 x1 23 2 (va_rf v1) (fun w76 => f_put E w76 v1 23 4 (va_rf x1) (fun w80 => Post (.inl none) w80))) else f_getr w24 v1 23 4 (fun x29 => f_getr w24 x29 23 2 (fun x33 => (if x33 = v1 then f_getr w24 v1 23 4 (fun x53 => f_put E w24 x53 23 2 (va_rf x1) (fun w60 => f_put E w60 x1 23 2 (va_rf v1) (fun w64 => f_put E w64 v1 23 4 (va_rf x1) (fun w68 => Post (.inl none) w68)))) else f_getr w24 v1 23 4 (fun x37 => f_put E w24 x37 23 3 (va_rf x1) (fun w44 => f_put E w44 x1 23 2 (va_rf v1) (fun w48 => f_put E w48 v1 23 4 (va_rf x1) (fun w52 => Post (.inl none) w52))))))))))) else f_getr w12 x1 23 2 (fun x81 => f_put E w12 x81 23 4 (va_rf v1) (fun w88 => f_getr w88 v1 23 4 (fun x89 => f_put E w88 x1 23 4 (va_rf x89) (fun w96 => f_getr w96 v1 23 4 (fun x97 => (if x97 = none then f_put E w96 v0 22 3 (va_rf x1) (fun w144 => f_put E w144 x1 23 2 (va_rf v1) (fun w148 => f_put E w148 v1 23 4 (va_rf x1) (fun w152 => Post (.inl none) w152))) else f_getr w96 v1 23 4 (fun x101 => f_getr w96 x101 23 2 (fun x105 => (if x105 = v1 then f_getr w96 v1 23 4 (fun x125 => f_put E w96 x125 23 2 (va_rf x1) (fun w132 => f_put E w132 x1 23 2 (va_rf v1) (fun w136 => f_put E w136 v1 23 4 (va_rf x1) (fun w140 => Post (.inl none) w140)))) else f_getr w96 v1 23 4 (fun x109 => f_put E w96 x109 23 3 (va_rf x1) (fun w116 => f_put E w116 x1 23 2 (va_rf v1) (fun w120 => f_put E w120 v1 23 4 (va_rf x1) (fun w124 => Post (.inl none) w124)))))))))))))))))))) : pw_Wp E m_J18_rotateLeft (d + 1) 0 [some (va_rf v0), some (va_rf v1), none] [] w Post := by
  refine r_aload_n (M := m_J18_rotateLeft) (pc := 0) dJ18_rotateLeft_0 1 rfl rfl ?_
  refine r_ifnull (M := m_J18_rotateLeft) (pc := 1) dJ18_rotateLeft_1 95 (by decide) (fun hc => ?_) (fun hc => ?_)
  · replace H := f_it H hc
    exact r_return (M := m_J18_rotateLeft) (pc := 95) dJ18_rotateLeft_95 rfl H
  · replace H := f_if H hc
    refine r_aload_n (M := m_J18_rotateLeft) (pc := 4) dJ18_rotateLeft_4 1 rfl rfl ?_
    obtain ⟨a2, fs3, x1, e9, h4, h4v, H⟩ := H; cases e9
    refine r_get (M := m_J18_rotateLeft) (pc := 5) dJ18_rotateLeft_5 "java/util/TreeMap$Entry" 23 3 _ rfl (Nat.le_of_ble_eq_true rfl) q1673 (Or.inl rfl) h4 (Nat.le_of_ble_eq_true rfl) h4v ?_
    refine r_astore_n (M := m_J18_rotateLeft) (pc := 8) dJ18_rotateLeft_8 2 rfl (Nat.le_of_ble_eq_true rfl) (pw_pre_rf rfl) ?_
    refine r_aload_n (M := m_J18_rotateLeft) (pc := 9) dJ18_rotateLeft_9 1 rfl rfl ?_
    refine r_aload_n (M := m_J18_rotateLeft) (pc := 10) dJ18_rotateLeft_10 2 rfl rfl ?_
    obtain ⟨a6, fs7, x5, e9, h8, h8v, H⟩ := H; cases e9
    refine r_get (M := m_J18_rotateLeft) (pc := 11) dJ18_rotateLeft_11 "java/util/TreeMap$Entry" 23 2 _ rfl (Nat.le_of_ble_eq_true rfl) q1672 (Or.inl rfl) h8 (Nat.le_of_ble_eq_true rfl) h8v ?_
    obtain ⟨a9, fs10, e9, h11, h11b, H⟩ := H; cases e9
    refine r_put (M := m_J18_rotateLeft) (pc := 14) dJ18_rotateLeft_14 "java/util/TreeMap$Entry" 23 3 _ rfl (Nat.le_of_ble_eq_true rfl) q1673 (Or.inl rfl) rfl h11 (Nat.le_of_ble_eq_true rfl) h11b (nar_ro _ _) (fit_ro _ _) ?_
    refine r_aload_n (M := m_J18_rotateLeft) (pc := 17) dJ18_rotateLeft_17 2 rfl rfl ?_
    obtain ⟨a14, fs15, x13, e9, h16, h16v, H⟩ := H; cases e9
    refine r_get (M := m_J18_rotateLeft) (pc := 18) dJ18_rotateLeft_18 "java/util/TreeMap$Entry" 23 2 _ rfl (Nat.le_of_ble_eq_true rfl) q1672 (Or.inl rfl) h16 (Nat.le_of_ble_eq_true rfl) h16v ?_
    refine r_ifnull (M := m_J18_rotateLeft) (pc := 21) dJ18_rotateLeft_21 32 (by decide) (fun hc => ?_) (fun hc => ?_)
    · replace H := f_it H hc
      refine r_aload_n (M := m_J18_rotateLeft) (pc := 32) dJ18_rotateLeft_32 2 rfl rfl ?_
      refine r_aload_n (M := m_J18_rotateLeft) (pc := 33) dJ18_rotateLeft_33 1 rfl rfl ?_
      obtain ⟨a18, fs19, x17, e9, h20, h20v, H⟩ := H; cases e9
      refine r_get (M := m_J18_rotateLeft) (pc := 34) dJ18_rotateLeft_34 "java/util/TreeMap$Entry" 23 4 _ rfl (Nat.le_of_ble_eq_true rfl) q1675 (Or.inl rfl) h20 (Nat.le_of_ble_eq_true rfl) h20v ?_
      obtain ⟨a21, fs22, e9, h23, h23b, H⟩ := H; cases e9
      refine r_put (M := m_J18_rotateLeft) (pc := 37) dJ18_rotateLeft_37 "java/util/TreeMap$Entry" 23 4 _ rfl (Nat.le_of_ble_eq_true rfl) q1675 (Or.inl rfl) rfl h23 (Nat.le_of_ble_eq_true rfl) h23b (nar_ro _ _) (fit_ro _ _) ?_
      refine r_aload_n (M := m_J18_rotateLeft) (pc := 40) dJ18_rotateLeft_40 1 rfl rfl ?_
      obtain ⟨a26, fs27, x25, e9, h28, h28v, H⟩ := H; cases e9
      refine r_get (M := m_J18_rotateLeft) (pc := 41) dJ18_rotateLeft_41 "java/util/TreeMap$Entry" 23 4 _ rfl (Nat.le_of_ble_eq_true rfl) q1675 (Or.inl rfl) h28 (Nat.le_of_ble_eq_true rfl) h28v ?_
      refine r_ifnonnull (M := m_J18_rotateLeft) (pc := 44) dJ18_rotateLeft_44 55 (by decide) (fun hc => ?_) (fun hc => ?_)
      · replace H := f_if H hc
        refine r_aload_n (M := m_J18_rotateLeft) (pc := 55) dJ18_rotateLeft_55 1 rfl rfl ?_
        obtain ⟨a30, fs31, x29, e9, h32, h32v, H⟩ := H; cases e9
        refine r_get (M := m_J18_rotateLeft) (pc := 56) dJ18_rotateLeft_56 "java/util/TreeMap$Entry" 23 4 _ rfl (Nat.le_of_ble_eq_true rfl) q1675 (Or.inl rfl) h32 (Nat.le_of_ble_eq_true rfl) h32v ?_
        obtain ⟨a34, fs35, x33, e9, h36, h36v, H⟩ := H; cases e9
        refine r_get (M := m_J18_rotateLeft) (pc := 59) dJ18_rotateLeft_59 "java/util/TreeMap$Entry" 23 2 _ rfl (Nat.le_of_ble_eq_true rfl) q1672 (Or.inl rfl) h36 (Nat.le_of_ble_eq_true rfl) h36v ?_
        refine r_aload_n (M := m_J18_rotateLeft) (pc := 62) dJ18_rotateLeft_62 1 rfl rfl ?_
        refine r_acmp_ne (M := m_J18_rotateLeft) (pc := 63) dJ18_rotateLeft_63 77 (by decide) (fun hc => ?_) (fun hc => ?_)
        · replace H := f_if H hc
          refine r_aload_n (M := m_J18_rotateLeft) (pc := 77) dJ18_rotateLeft_77 1 rfl rfl ?_
          obtain ⟨a38, fs39, x37, e9, h40, h40v, H⟩ := H; cases e9
          refine r_get (M := m_J18_rotateLeft) (pc := 78) dJ18_rotateLeft_78 "java/util/TreeMap$Entry" 23 4 _ rfl (Nat.le_of_ble_eq_true rfl) q1675 (Or.inl rfl) h40 (Nat.le_of_ble_eq_true rfl) h40v ?_
          refine r_aload_n (M := m_J18_rotateLeft) (pc := 81) dJ18_rotateLeft_81 2 rfl rfl ?_
          obtain ⟨a41, fs42, e9, h43, h43b, H⟩ := H; cases e9
          refine r_put (M := m_J18_rotateLeft) (pc := 82) dJ18_rotateLeft_82 "java/util/TreeMap$Entry" 23 3 _ rfl (Nat.le_of_ble_eq_true rfl) q1673 (Or.inl rfl) rfl h43 (Nat.le_of_ble_eq_true rfl) h43b (nar_ro _ _) (fit_ro _ _) ?_
          refine r_aload_n (M := m_J18_rotateLeft) (pc := 85) dJ18_rotateLeft_85 2 rfl rfl ?_
          refine r_aload_n (M := m_J18_rotateLeft) (pc := 86) dJ18_rotateLeft_86 1 rfl rfl ?_
          obtain ⟨a45, fs46, e9, h47, h47b, H⟩ := H; cases e9
          refine r_put (M := m_J18_rotateLeft) (pc := 87) dJ18_rotateLeft_87 "java/util/TreeMap$Entry" 23 2 _ rfl (Nat.le_of_ble_eq_true rfl) q1672 (Or.inl rfl) rfl h47 (Nat.le_of_ble_eq_true rfl) h47b (nar_ro _ _) (fit_ro _ _) ?_
          refine r_aload_n (M := m_J18_rotateLeft) (pc := 90) dJ18_rotateLeft_90 1 rfl rfl ?_
          refine r_aload_n (M := m_J18_rotateLeft) (pc := 91) dJ18_rotateLeft_91 2 rfl rfl ?_
          obtain ⟨a49, fs50, e9, h51, h51b, H⟩ := H; cases e9
          refine r_put (M := m_J18_rotateLeft) (pc := 92) dJ18_rotateLeft_92 "java/util/TreeMap$Entry" 23 4 _ rfl (Nat.le_of_ble_eq_true rfl) q1675 (Or.inl rfl) rfl h51 (Nat.le_of_ble_eq_true rfl) h51b (nar_ro _ _) (fit_ro _ _) ?_
          exact r_return (M := m_J18_rotateLeft) (pc := 95) dJ18_rotateLeft_95 rfl H
        · replace H := f_it H hc
          refine r_aload_n (M := m_J18_rotateLeft) (pc := 66) dJ18_rotateLeft_66 1 rfl rfl ?_
          obtain ⟨a54, fs55, x53, e9, h56, h56v, H⟩ := H; cases e9
          refine r_get (M := m_J18_rotateLeft) (pc := 67) dJ18_rotateLeft_67 "java/util/TreeMap$Entry" 23 4 _ rfl (Nat.le_of_ble_eq_true rfl) q1675 (Or.inl rfl) h56 (Nat.le_of_ble_eq_true rfl) h56v ?_
          refine r_aload_n (M := m_J18_rotateLeft) (pc := 70) dJ18_rotateLeft_70 2 rfl rfl ?_
          obtain ⟨a57, fs58, e9, h59, h59b, H⟩ := H; cases e9
          refine r_put (M := m_J18_rotateLeft) (pc := 71) dJ18_rotateLeft_71 "java/util/TreeMap$Entry" 23 2 _ rfl (Nat.le_of_ble_eq_true rfl) q1672 (Or.inl rfl) rfl h59 (Nat.le_of_ble_eq_true rfl) h59b (nar_ro _ _) (fit_ro _ _) ?_
          refine r_goto (M := m_J18_rotateLeft) (pc := 74) dJ18_rotateLeft_74 85 (by decide) ?_
          refine r_aload_n (M := m_J18_rotateLeft) (pc := 85) dJ18_rotateLeft_85 2 rfl rfl ?_
          refine r_aload_n (M := m_J18_rotateLeft) (pc := 86) dJ18_rotateLeft_86 1 rfl rfl ?_
          obtain ⟨a61, fs62, e9, h63, h63b, H⟩ := H; cases e9
          refine r_put (M := m_J18_rotateLeft) (pc := 87) dJ18_rotateLeft_87 "java/util/TreeMap$Entry" 23 2 _ rfl (Nat.le_of_ble_eq_true rfl) q1672 (Or.inl rfl) rfl h63 (Nat.le_of_ble_eq_true rfl) h63b (nar_ro _ _) (fit_ro _ _) ?_
          refine r_aload_n (M := m_J18_rotateLeft) (pc := 90) dJ18_rotateLeft_90 1 rfl rfl ?_
          refine r_aload_n (M := m_J18_rotateLeft) (pc := 91) dJ18_rotateLeft_91 2 rfl rfl ?_
          obtain ⟨a65, fs66, e9, h67, h67b, H⟩ := H; cases e9
          refine r_put (M := m_J18_rotateLeft) (pc := 92) dJ18_rotateLeft_92 "java/util/TreeMap$Entry" 23 4 _ rfl (Nat.le_of_ble_eq_true rfl) q1675 (Or.inl rfl) rfl h67 (Nat.le_of_ble_eq_true rfl) h67b (nar_ro _ _) (fit_ro _ _) ?_
          exact r_return (M := m_J18_rotateLeft) (pc := 95) dJ18_rotateLeft_95 rfl H
      · replace H := f_it H hc
        refine r_aload_n (M := m_J18_rotateLeft) (pc := 47) dJ18_rotateLeft_47 0 rfl rfl ?_
        refine r_aload_n (M := m_J18_rotateLeft) (pc := 48) dJ18_rotateLeft_48 2 rfl rfl ?_
        obtain ⟨a69, fs70, e9, h71, h71b, H⟩ := H; cases e9
        refine r_put (M := m_J18_rotateLeft) (pc := 49) dJ18_rotateLeft_49 "java/util/TreeMap" 22 3 _ rfl (Nat.le_of_ble_eq_true rfl) q1350 (Or.inl rfl) rfl h71 (Nat.le_of_ble_eq_true rfl) h71b (nar_ro _ _) (fit_ro _ _) ?_
        refine r_goto (M := m_J18_rotateLeft) (pc := 52) dJ18_rotateLeft_52 85 (by decide) ?_
        refine r_aload_n (M := m_J18_rotateLeft) (pc := 85) dJ18_rotateLeft_85 2 rfl rfl ?_
        refine r_aload_n (M := m_J18_rotateLeft) (pc := 86) dJ18_rotateLeft_86 1 rfl rfl ?_
        obtain ⟨a73, fs74, e9, h75, h75b, H⟩ := H; cases e9
        refine r_put (M := m_J18_rotateLeft) (pc := 87) dJ18_rotateLeft_87 "java/util/TreeMap$Entry" 23 2 _ rfl (Nat.le_of_ble_eq_true rfl) q1672 (Or.inl rfl) rfl h75 (Nat.le_of_ble_eq_true rfl) h75b (nar_ro _ _) (fit_ro _ _) ?_
        refine r_aload_n (M := m_J18_rotateLeft) (pc := 90) dJ18_rotateLeft_90 1 rfl rfl ?_
        refine r_aload_n (M := m_J18_rotateLeft) (pc := 91) dJ18_rotateLeft_91 2 rfl rfl ?_
        obtain ⟨a77, fs78, e9, h79, h79b, H⟩ := H; cases e9
        refine r_put (M := m_J18_rotateLeft) (pc := 92) dJ18_rotateLeft_92 "java/util/TreeMap$Entry" 23 4 _ rfl (Nat.le_of_ble_eq_true rfl) q1675 (Or.inl rfl) rfl h79 (Nat.le_of_ble_eq_true rfl) h79b (nar_ro _ _) (fit_ro _ _) ?_
        exact r_return (M := m_J18_rotateLeft) (pc := 95) dJ18_rotateLeft_95 rfl H
    · replace H := f_if H hc
      refine r_aload_n (M := m_J18_rotateLeft) (pc := 24) dJ18_rotateLeft_24 2 rfl rfl ?_
      obtain ⟨a82, fs83, x81, e9, h84, h84v, H⟩ := H; cases e9
      refine r_get (M := m_J18_rotateLeft) (pc := 25) dJ18_rotateLeft_25 "java/util/TreeMap$Entry" 23 2 _ rfl (Nat.le_of_ble_eq_true rfl) q1672 (Or.inl rfl) h84 (Nat.le_of_ble_eq_true rfl) h84v ?_
      refine r_aload_n (M := m_J18_rotateLeft) (pc := 28) dJ18_rotateLeft_28 1 rfl rfl ?_
      obtain ⟨a85, fs86, e9, h87, h87b, H⟩ := H; cases e9
      refine r_put (M := m_J18_rotateLeft) (pc := 29) dJ18_rotateLeft_29 "java/util/TreeMap$Entry" 23 4 _ rfl (Nat.le_of_ble_eq_true rfl) q1675 (Or.inl rfl) rfl h87 (Nat.le_of_ble_eq_true rfl) h87b (nar_ro _ _) (fit_ro _ _) ?_
      refine r_aload_n (M := m_J18_rotateLeft) (pc := 32) dJ18_rotateLeft_32 2 rfl rfl ?_
      refine r_aload_n (M := m_J18_rotateLeft) (pc := 33) dJ18_rotateLeft_33 1 rfl rfl ?_
      obtain ⟨a90, fs91, x89, e9, h92, h92v, H⟩ := H; cases e9
      refine r_get (M := m_J18_rotateLeft) (pc := 34) dJ18_rotateLeft_34 "java/util/TreeMap$Entry" 23 4 _ rfl (Nat.le_of_ble_eq_true rfl) q1675 (Or.inl rfl) h92 (Nat.le_of_ble_eq_true rfl) h92v ?_
      obtain ⟨a93, fs94, e9, h95, h95b, H⟩ := H; cases e9
      refine r_put (M := m_J18_rotateLeft) (pc := 37) dJ18_rotateLeft_37 "java/util/TreeMap$Entry" 23 4 _ rfl (Nat.le_of_ble_eq_true rfl) q1675 (Or.inl rfl) rfl h95 (Nat.le_of_ble_eq_true rfl) h95b (nar_ro _ _) (fit_ro _ _) ?_
      refine r_aload_n (M := m_J18_rotateLeft) (pc := 40) dJ18_rotateLeft_40 1 rfl rfl ?_
      obtain ⟨a98, fs99, x97, e9, h100, h100v, H⟩ := H; cases e9
      refine r_get (M := m_J18_rotateLeft) (pc := 41) dJ18_rotateLeft_41 "java/util/TreeMap$Entry" 23 4 _ rfl (Nat.le_of_ble_eq_true rfl) q1675 (Or.inl rfl) h100 (Nat.le_of_ble_eq_true rfl) h100v ?_
      refine r_ifnonnull (M := m_J18_rotateLeft) (pc := 44) dJ18_rotateLeft_44 55 (by decide) (fun hc => ?_) (fun hc => ?_)
      · replace H := f_if H hc
        refine r_aload_n (M := m_J18_rotateLeft) (pc := 55) dJ18_rotateLeft_55 1 rfl rfl ?_
        obtain ⟨a102, fs103, x101, e9, h104, h104v, H⟩ := H; cases e9
        refine r_get (M := m_J18_rotateLeft) (pc := 56) dJ18_rotateLeft_56 "java/util/TreeMap$Entry" 23 4 _ rfl (Nat.le_of_ble_eq_true rfl) q1675 (Or.inl rfl) h104 (Nat.le_of_ble_eq_true rfl) h104v ?_
        obtain ⟨a106, fs107, x105, e9, h108, h108v, H⟩ := H; cases e9
        refine r_get (M := m_J18_rotateLeft) (pc := 59) dJ18_rotateLeft_59 "java/util/TreeMap$Entry" 23 2 _ rfl (Nat.le_of_ble_eq_true rfl) q1672 (Or.inl rfl) h108 (Nat.le_of_ble_eq_true rfl) h108v ?_
        refine r_aload_n (M := m_J18_rotateLeft) (pc := 62) dJ18_rotateLeft_62 1 rfl rfl ?_
        refine r_acmp_ne (M := m_J18_rotateLeft) (pc := 63) dJ18_rotateLeft_63 77 (by decide) (fun hc => ?_) (fun hc => ?_)
        · replace H := f_if H hc
          refine r_aload_n (M := m_J18_rotateLeft) (pc := 77) dJ18_rotateLeft_77 1 rfl rfl ?_
          obtain ⟨a110, fs111, x109, e9, h112, h112v, H⟩ := H; cases e9
          refine r_get (M := m_J18_rotateLeft) (pc := 78) dJ18_rotateLeft_78 "java/util/TreeMap$Entry" 23 4 _ rfl (Nat.le_of_ble_eq_true rfl) q1675 (Or.inl rfl) h112 (Nat.le_of_ble_eq_true rfl) h112v ?_
          refine r_aload_n (M := m_J18_rotateLeft) (pc := 81) dJ18_rotateLeft_81 2 rfl rfl ?_
          obtain ⟨a113, fs114, e9, h115, h115b, H⟩ := H; cases e9
          refine r_put (M := m_J18_rotateLeft) (pc := 82) dJ18_rotateLeft_82 "java/util/TreeMap$Entry" 23 3 _ rfl (Nat.le_of_ble_eq_true rfl) q1673 (Or.inl rfl) rfl h115 (Nat.le_of_ble_eq_true rfl) h115b (nar_ro _ _) (fit_ro _ _) ?_
          refine r_aload_n (M := m_J18_rotateLeft) (pc := 85) dJ18_rotateLeft_85 2 rfl rfl ?_
          refine r_aload_n (M := m_J18_rotateLeft) (pc := 86) dJ18_rotateLeft_86 1 rfl rfl ?_
          obtain ⟨a117, fs118, e9, h119, h119b, H⟩ := H; cases e9
          refine r_put (M := m_J18_rotateLeft) (pc := 87) dJ18_rotateLeft_87 "java/util/TreeMap$Entry" 23 2 _ rfl (Nat.le_of_ble_eq_true rfl) q1672 (Or.inl rfl) rfl h119 (Nat.le_of_ble_eq_true rfl) h119b (nar_ro _ _) (fit_ro _ _) ?_
          refine r_aload_n (M := m_J18_rotateLeft) (pc := 90) dJ18_rotateLeft_90 1 rfl rfl ?_
          refine r_aload_n (M := m_J18_rotateLeft) (pc := 91) dJ18_rotateLeft_91 2 rfl rfl ?_
          obtain ⟨a121, fs122, e9, h123, h123b, H⟩ := H; cases e9
          refine r_put (M := m_J18_rotateLeft) (pc := 92) dJ18_rotateLeft_92 "java/util/TreeMap$Entry" 23 4 _ rfl (Nat.le_of_ble_eq_true rfl) q1675 (Or.inl rfl) rfl h123 (Nat.le_of_ble_eq_true rfl) h123b (nar_ro _ _) (fit_ro _ _) ?_
          exact r_return (M := m_J18_rotateLeft) (pc := 95) dJ18_rotateLeft_95 rfl H
        · replace H := f_it H hc
          refine r_aload_n (M := m_J18_rotateLeft) (pc := 66) dJ18_rotateLeft_66 1 rfl rfl ?_
          obtain ⟨a126, fs127, x125, e9, h128, h128v, H⟩ := H; cases e9
          refine r_get (M := m_J18_rotateLeft) (pc := 67) dJ18_rotateLeft_67 "java/util/TreeMap$Entry" 23 4 _ rfl (Nat.le_of_ble_eq_true rfl) q1675 (Or.inl rfl) h128 (Nat.le_of_ble_eq_true rfl) h128v ?_
          refine r_aload_n (M := m_J18_rotateLeft) (pc := 70) dJ18_rotateLeft_70 2 rfl rfl ?_
          obtain ⟨a129, fs130, e9, h131, h131b, H⟩ := H; cases e9
          refine r_put (M := m_J18_rotateLeft) (pc := 71) dJ18_rotateLeft_71 "java/util/TreeMap$Entry" 23 2 _ rfl (Nat.le_of_ble_eq_true rfl) q1672 (Or.inl rfl) rfl h131 (Nat.le_of_ble_eq_true rfl) h131b (nar_ro _ _) (fit_ro _ _) ?_
          refine r_goto (M := m_J18_rotateLeft) (pc := 74) dJ18_rotateLeft_74 85 (by decide) ?_
          refine r_aload_n (M := m_J18_rotateLeft) (pc := 85) dJ18_rotateLeft_85 2 rfl rfl ?_
          refine r_aload_n (M := m_J18_rotateLeft) (pc := 86) dJ18_rotateLeft_86 1 rfl rfl ?_
          obtain ⟨a133, fs134, e9, h135, h135b, H⟩ := H; cases e9
          refine r_put (M := m_J18_rotateLeft) (pc := 87) dJ18_rotateLeft_87 "java/util/TreeMap$Entry" 23 2 _ rfl (Nat.le_of_ble_eq_true rfl) q1672 (Or.inl rfl) rfl h135 (Nat.le_of_ble_eq_true rfl) h135b (nar_ro _ _) (fit_ro _ _) ?_
          refine r_aload_n (M := m_J18_rotateLeft) (pc := 90) dJ18_rotateLeft_90 1 rfl rfl ?_
          refine r_aload_n (M := m_J18_rotateLeft) (pc := 91) dJ18_rotateLeft_91 2 rfl rfl ?_
          obtain ⟨a137, fs138, e9, h139, h139b, H⟩ := H; cases e9
          refine r_put (M := m_J18_rotateLeft) (pc := 92) dJ18_rotateLeft_92 "java/util/TreeMap$Entry" 23 4 _ rfl (Nat.le_of_ble_eq_true rfl) q1675 (Or.inl rfl) rfl h139 (Nat.le_of_ble_eq_true rfl) h139b (nar_ro _ _) (fit_ro _ _) ?_
          exact r_return (M := m_J18_rotateLeft) (pc := 95) dJ18_rotateLeft_95 rfl H
      · replace H := f_it H hc
        refine r_aload_n (M := m_J18_rotateLeft) (pc := 47) dJ18_rotateLeft_47 0 rfl rfl ?_
        refine r_aload_n (M := m_J18_rotateLeft) (pc := 48) dJ18_rotateLeft_48 2 rfl rfl ?_
        obtain ⟨a141, fs142, e9, h143, h143b, H⟩ := H; cases e9
        refine r_put (M := m_J18_rotateLeft) (pc := 49) dJ18_rotateLeft_49 "java/util/TreeMap" 22 3 _ rfl (Nat.le_of_ble_eq_true rfl) q1350 (Or.inl rfl) rfl h143 (Nat.le_of_ble_eq_true rfl) h143b (nar_ro _ _) (fit_ro _ _) ?_
        refine r_goto (M := m_J18_rotateLeft) (pc := 52) dJ18_rotateLeft_52 85 (by decide) ?_
        refine r_aload_n (M := m_J18_rotateLeft) (pc := 85) dJ18_rotateLeft_85 2 rfl rfl ?_
        refine r_aload_n (M := m_J18_rotateLeft) (pc := 86) dJ18_rotateLeft_86 1 rfl rfl ?_
        obtain ⟨a145, fs146, e9, h147, h147b, H⟩ := H; cases e9
        refine r_put (M := m_J18_rotateLeft) (pc := 87) dJ18_rotateLeft_87 "java/util/TreeMap$Entry" 23 2 _ rfl (Nat.le_of_ble_eq_true rfl) q1672 (Or.inl rfl) rfl h147 (Nat.le_of_ble_eq_true rfl) h147b (nar_ro _ _) (fit_ro _ _) ?_
        refine r_aload_n (M := m_J18_rotateLeft) (pc := 90) dJ18_rotateLeft_90 1 rfl rfl ?_
        refine r_aload_n (M := m_J18_rotateLeft) (pc := 91) dJ18_rotateLeft_91 2 rfl rfl ?_
        obtain ⟨a149, fs150, e9, h151, h151b, H⟩ := H; cases e9
        refine r_put (M := m_J18_rotateLeft) (pc := 92) dJ18_rotateLeft_92 "java/util/TreeMap$Entry" 23 4 _ rfl (Nat.le_of_ble_eq_true rfl) q1675 (Or.inl rfl) rfl h151 (Nat.le_of_ble_eq_true rfl) h151b (nar_ro _ _) (fit_ro _ _) ?_
        exact r_return (M := m_J18_rotateLeft) (pc := 95) dJ18_rotateLeft_95 rfl H
theorem e_J18_rotateLeft {E : pw_E} {d : Nat} {w : pw_W} {Post : pw_R → pw_W → Prop} (v0 : Option Nat) (v1 : Option Nat) (H : pw_Wp E m_J18_rotateLeft d 0 [some (va_rf v0), some (va_rf v1), none] [] w Post) : pw_Cl E m_J18_rotateLeft d [va_rf v0, va_rf v1] w Post := pw_meth (by decide) rfl (pw_e1 (pw_cat_rf _) (pw_e1 (pw_cat_rf _) (pw_e0 (n := 1)))) H
theorem s_J18_rotateRight_0 {E : pw_E} {d : Nat} {w : pw_W} {Post : pw_R → pw_W → Prop} (v0 : Option Nat) (v1 : Option Nat) (H : (if v1 = none then Post (.inl none) w else f_getr w v1 23 2 (fun x1 => f_getr w x1 23 3 (fun x5 => f_put E w v1 23 2 (va_rf x5) (fun w12 => f_getr w12 x1 23 3 (fun x13 => (if x13 = none then f_getr w12 v1 23 4 (fun x17 => f_put E w12 x1 23 4 (va_rf x17) (fun w24 => f_getr w24 v1 23 4 (fun x25 => (if x25 = none then f_put E w24 v0 22 3 (va_rf x1) (fun w72 => f_put E w72 x1 23 3 (va_rf v1) (fun w76 => f_put E w76 v1 23 4 (va_rf x1) (fun w80 => Post (.inl none) w80))) else f_getr w24 v1 23 4 (fun x29 => f_getr w24 x29 23 3 (fun x33 => (if x33 = v1 then f_getr w24 v1 23 4 (fun x53 => f_put E w24 x53 23 3 (va_rf x1) (fun w60 => f_put E w60 x1 23 3 (va_rf v1) (fun w64 => f_put E w64 v1 23 4 (va_rf x1) (fun w68 => Post (.inl none) w68)))) else f_getr w24 v1 23 4 (fun x37 => f_put E w24 x37 23 2 (va_rf x1) (fun w44 => f_put E w44 x1 23 3 (va_rf v1) (fun w48 => f_put E w48 v1 23 4 (va_rf x1) (fun w52 => Post (.inl none) w52))))))))))) else f_getr w12 x1 23 3 (fun x81 => f_put E w12 x81 23 4 (va_rf v1) (fun w88 => f_getr w88 v1 23 4 (fun x89 => f_put E w88 x1 23 4 (va_rf x89) (fun w96 => f_getr w96 v1 23 4 (fun x97 => (if x97 = none then f_put E w96 v0 22 3 (va_rf x1) (fun w144 => f_put E w144 x1 23 3 (va_rf v1) (fun w148 => f_put E w148 v1 23 4 (va_rf x1) (fun w152 => Post (.inl none) w152))) else f_getr w96 v1 23 4 (fun x101 => f_getr w96 x101 23 3 (fun x105 => (if x105 = v1 then f_getr w96 v1 23 4 (fun x125 => f_put E w96 x125 23 3 (va_rf x1) (fun w132 => f_put E w132 x1 23 3 (va_rf v1) (fun w136 => f_put E w136 v1 23 4 (va_rf x1) (fun w140 => Post (.inl none) w140)))) else f_getr w96 v1 23 4 (fun x109 => f_put E w96 x109 23 2 (va_rf x1) (fun w116 => f_put E w116 x1 23 3 (va_rf v1) (fun w120 => f_put E w120 v1 23 4 (va_rf x1) (fun w124 => Post (.inl none) w124)))))))))))))))))))) : pw_Wp E m_J18_rotateRight (d + 1) 0 [some (va_rf v0), some (va_rf v1), none] [] w Post := by
  refine r_aload_n (M := m_J18_rotateRight) (pc := 0) dJ18_rotateRight_0 1 rfl rfl ?_
  refine r_ifnull (M := m_J18_rotateRight) (pc := 1) dJ18_rotateRight_1 95 (by decide) (fun hc => ?_) (fun hc => ?_)
  · replace H := f_it H hc
    exact r_return (M := m_J18_rotateRight) (pc := 95) dJ18_rotateRight_95 rfl H
  · replace H := f_if H hc
    refine r_aload_n (M := m_J18_rotateRight) (pc := 4) dJ18_rotateRight_4 1 rfl rfl ?_
    obtain ⟨a2, fs3, x1, e9, h4, h4v, H⟩ := H; cases e9
    refine r_get (M := m_J18_rotateRight) (pc := 5) dJ18_rotateRight_5 "java/util/TreeMap$Entry" 23 2 _ rfl (Nat.le_of_ble_eq_true rfl) q1672 (Or.inl rfl) h4 (Nat.le_of_ble_eq_true rfl) h4v ?_
    refine r_astore_n (M := m_J18_rotateRight) (pc := 8) dJ18_rotateRight_8 2 rfl (Nat.le_of_ble_eq_true rfl) (pw_pre_rf rfl) ?_
    refine r_aload_n (M := m_J18_rotateRight) (pc := 9) dJ18_rotateRight_9 1 rfl rfl ?_
    refine r_aload_n (M := m_J18_rotateRight) (pc := 10) dJ18_rotateRight_10 2 rfl rfl ?_
    obtain ⟨a6, fs7, x5, e9, h8, h8v, H⟩ := H; cases e9
    refine r_get (M := m_J18_rotateRight) (pc := 11) dJ18_rotateRight_11 "java/util/TreeMap$Entry" 23 3 _ rfl (Nat.le_of_ble_eq_true rfl) q1673 (Or.inl rfl) h8 (Nat.le_of_ble_eq_true rfl) h8v ?_
    obtain ⟨a9, fs10, e9, h11, h11b, H⟩ := H; cases e9
    refine r_put (M := m_J18_rotateRight) (pc := 14) dJ18_rotateRight_14 "java/util/TreeMap$Entry" 23 2 _ rfl (Nat.le_of_ble_eq_true rfl) q1672 (Or.inl rfl) rfl h11 (Nat.le_of_ble_eq_true rfl) h11b (nar_ro _ _) (fit_ro _ _) ?_
    refine r_aload_n (M := m_J18_rotateRight) (pc := 17) dJ18_rotateRight_17 2 rfl rfl ?_
    obtain ⟨a14, fs15, x13, e9, h16, h16v, H⟩ := H; cases e9
    refine r_get (M := m_J18_rotateRight) (pc := 18) dJ18_rotateRight_18 "java/util/TreeMap$Entry" 23 3 _ rfl (Nat.le_of_ble_eq_true rfl) q1673 (Or.inl rfl) h16 (Nat.le_of_ble_eq_true rfl) h16v ?_
    refine r_ifnull (M := m_J18_rotateRight) (pc := 21) dJ18_rotateRight_21 32 (by decide) (fun hc => ?_) (fun hc => ?_)
    · replace H := f_it H hc
      refine r_aload_n (M := m_J18_rotateRight) (pc := 32) dJ18_rotateRight_32 2 rfl rfl ?_
      refine r_aload_n (M := m_J18_rotateRight) (pc := 33) dJ18_rotateRight_33 1 rfl rfl ?_
      obtain ⟨a18, fs19, x17, e9, h20, h20v, H⟩ := H; cases e9
      refine r_get (M := m_J18_rotateRight) (pc := 34) dJ18_rotateRight_34 "java/util/TreeMap$Entry" 23 4 _ rfl (Nat.le_of_ble_eq_true rfl) q1675 (Or.inl rfl) h20 (Nat.le_of_ble_eq_true rfl) h20v ?_
      obtain ⟨a21, fs22, e9, h23, h23b, H⟩ := H; cases e9
      refine r_put (M := m_J18_rotateRight) (pc := 37) dJ18_rotateRight_37 "java/util/TreeMap$Entry" 23 4 _ rfl (Nat.le_of_ble_eq_true rfl) q1675 (Or.inl rfl) rfl h23 (Nat.le_of_ble_eq_true rfl) h23b (nar_ro _ _) (fit_ro _ _) ?_
      refine r_aload_n (M := m_J18_rotateRight) (pc := 40) dJ18_rotateRight_40 1 rfl rfl ?_
      obtain ⟨a26, fs27, x25, e9, h28, h28v, H⟩ := H; cases e9
      refine r_get (M := m_J18_rotateRight) (pc := 41) dJ18_rotateRight_41 "java/util/TreeMap$Entry" 23 4 _ rfl (Nat.le_of_ble_eq_true rfl) q1675 (Or.inl rfl) h28 (Nat.le_of_ble_eq_true rfl) h28v ?_
      refine r_ifnonnull (M := m_J18_rotateRight) (pc := 44) dJ18_rotateRight_44 55 (by decide) (fun hc => ?_) (fun hc => ?_)
      · replace H := f_if H hc
        refine r_aload_n (M := m_J18_rotateRight) (pc := 55) dJ18_rotateRight_55 1 rfl rfl ?_
        obtain ⟨a30, fs31, x29, e9, h32, h32v, H⟩ := H; cases e9
        refine r_get (M := m_J18_rotateRight) (pc := 56) dJ18_rotateRight_56 "java/util/TreeMap$Entry" 23 4 _ rfl (Nat.le_of_ble_eq_true rfl) q1675 (Or.inl rfl) h32 (Nat.le_of_ble_eq_true rfl) h32v ?_
        obtain ⟨a34, fs35, x33, e9, h36, h36v, H⟩ := H; cases e9
        refine r_get (M := m_J18_rotateRight) (pc := 59) dJ18_rotateRight_59 "java/util/TreeMap$Entry" 23 3 _ rfl (Nat.le_of_ble_eq_true rfl) q1673 (Or.inl rfl) h36 (Nat.le_of_ble_eq_true rfl) h36v ?_
        refine r_aload_n (M := m_J18_rotateRight) (pc := 62) dJ18_rotateRight_62 1 rfl rfl ?_
        refine r_acmp_ne (M := m_J18_rotateRight) (pc := 63) dJ18_rotateRight_63 77 (by decide) (fun hc => ?_) (fun hc => ?_)
        · replace H := f_if H hc
          refine r_aload_n (M := m_J18_rotateRight) (pc := 77) dJ18_rotateRight_77 1 rfl rfl ?_
          obtain ⟨a38, fs39, x37, e9, h40, h40v, H⟩ := H; cases e9
          refine r_get (M := m_J18_rotateRight) (pc := 78) dJ18_rotateRight_78 "java/util/TreeMap$Entry" 23 4 _ rfl (Nat.le_of_ble_eq_true rfl) q1675 (Or.inl rfl) h40 (Nat.le_of_ble_eq_true rfl) h40v ?_
          refine r_aload_n (M := m_J18_rotateRight) (pc := 81) dJ18_rotateRight_81 2 rfl rfl ?_
          obtain ⟨a41, fs42, e9, h43, h43b, H⟩ := H; cases e9
          refine r_put (M := m_J18_rotateRight) (pc := 82) dJ18_rotateRight_82 "java/util/TreeMap$Entry" 23 2 _ rfl (Nat.le_of_ble_eq_true rfl) q1672 (Or.inl rfl) rfl h43 (Nat.le_of_ble_eq_true rfl) h43b (nar_ro _ _) (fit_ro _ _) ?_
          refine r_aload_n (M := m_J18_rotateRight) (pc := 85) dJ18_rotateRight_85 2 rfl rfl ?_
          refine r_aload_n (M := m_J18_rotateRight) (pc := 86) dJ18_rotateRight_86 1 rfl rfl ?_
          obtain ⟨a45, fs46, e9, h47, h47b, H⟩ := H; cases e9
          refine r_put (M := m_J18_rotateRight) (pc := 87) dJ18_rotateRight_87 "java/util/TreeMap$Entry" 23 3 _ rfl (Nat.le_of_ble_eq_true rfl) q1673 (Or.inl rfl) rfl h47 (Nat.le_of_ble_eq_true rfl) h47b (nar_ro _ _) (fit_ro _ _) ?_
          refine r_aload_n (M := m_J18_rotateRight) (pc := 90) dJ18_rotateRight_90 1 rfl rfl ?_
          refine r_aload_n (M := m_J18_rotateRight) (pc := 91) dJ18_rotateRight_91 2 rfl rfl ?_
          obtain ⟨a49, fs50, e9, h51, h51b, H⟩ := H; cases e9
          refine r_put (M := m_J18_rotateRight) (pc := 92) dJ18_rotateRight_92 "java/util/TreeMap$Entry" 23 4 _ rfl (Nat.le_of_ble_eq_true rfl) q1675 (Or.inl rfl) rfl h51 (Nat.le_of_ble_eq_true rfl) h51b (nar_ro _ _) (fit_ro _ _) ?_
          exact r_return (M := m_J18_rotateRight) (pc := 95) dJ18_rotateRight_95 rfl H
        · replace H := f_it H hc
          refine r_aload_n (M := m_J18_rotateRight) (pc := 66) dJ18_rotateRight_66 1 rfl rfl ?_
          obtain ⟨a54, fs55, x53, e9, h56, h56v, H⟩ := H; cases e9
          refine r_get (M := m_J18_rotateRight) (pc := 67) dJ18_rotateRight_67 "java/util/TreeMap$Entry" 23 4 _ rfl (Nat.le_of_ble_eq_true rfl) q1675 (Or.inl rfl) h56 (Nat.le_of_ble_eq_true rfl) h56v ?_
          refine r_aload_n (M := m_J18_rotateRight) (pc := 70) dJ18_rotateRight_70 2 rfl rfl ?_
          obtain ⟨a57, fs58, e9, h59, h59b, H⟩ := H; cases e9
          refine r_put (M := m_J18_rotateRight) (pc := 71) dJ18_rotateRight_71 "java/util/TreeMap$Entry" 23 3 _ rfl (Nat.le_of_ble_eq_true rfl) q1673 (Or.inl rfl) rfl h59 (Nat.le_of_ble_eq_true rfl) h59b (nar_ro _ _) (fit_ro _ _) ?_
          refine r_goto (M := m_J18_rotateRight) (pc := 74) dJ18_rotateRight_74 85 (by decide) ?_
          refine r_aload_n (M := m_J18_rotateRight) (pc := 85) dJ18_rotateRight_85 2 rfl rfl ?_
          refine r_aload_n (M := m_J18_rotateRight) (pc := 86) dJ18_rotateRight_86 1 rfl rfl ?_
          obtain ⟨a61, fs62, e9, h63, h63b, H⟩ := H; cases e9
          refine r_put (M := m_J18_rotateRight) (pc := 87) dJ18_rotateRight_87 "java/util/TreeMap$Entry" 23 3 _ rfl (Nat.le_of_ble_eq_true rfl) q1673 (Or.inl rfl) rfl h63 (Nat.le_of_ble_eq_true rfl) h63b (nar_ro _ _) (fit_ro _ _) ?_
          refine r_aload_n (M := m_J18_rotateRight) (pc := 90) dJ18_rotateRight_90 1 rfl rfl ?_
          refine r_aload_n (M := m_J18_rotateRight) (pc := 91) dJ18_rotateRight_91 2 rfl rfl ?_
          obtain ⟨a65, fs66, e9, h67, h67b, H⟩ := H; cases e9
          refine r_put (M := m_J18_rotateRight) (pc := 92) dJ18_rotateRight_92 "java/util/TreeMap$Entry" 23 4 _ rfl (Nat.le_of_ble_eq_true rfl) q1675 (Or.inl rfl) rfl h67 (Nat.le_of_ble_eq_true rfl) h67b (nar_ro _ _) (fit_ro _ _) ?_
          exact r_return (M := m_J18_rotateRight) (pc := 95) dJ18_rotateRight_95 rfl H
      · replace H := f_it H hc
        refine r_aload_n (M := m_J18_rotateRight) (pc := 47) dJ18_rotateRight_47 0 rfl rfl ?_
        refine r_aload_n (M := m_J18_rotateRight) (pc := 48) dJ18_rotateRight_48 2 rfl rfl ?_
        obtain ⟨a69, fs70, e9, h71, h71b, H⟩ := H; cases e9
        refine r_put (M := m_J18_rotateRight) (pc := 49) dJ18_rotateRight_49 "java/util/TreeMap" 22 3 _ rfl (Nat.le_of_ble_eq_true rfl) q1350 (Or.inl rfl) rfl h71 (Nat.le_of_ble_eq_true rfl) h71b (nar_ro _ _) (fit_ro _ _) ?_
        refine r_goto (M := m_J18_rotateRight) (pc := 52) dJ18_rotateRight_52 85 (by decide) ?_
        refine r_aload_n (M := m_J18_rotateRight) (pc := 85) dJ18_rotateRight_85 2 rfl rfl ?_
        refine r_aload_n (M := m_J18_rotateRight) (pc := 86) dJ18_rotateRight_86 1 rfl rfl ?_
        obtain ⟨a73, fs74, e9, h75, h75b, H⟩ := H; cases e9
        refine r_put (M := m_J18_rotateRight) (pc := 87) dJ18_rotateRight_87 "java/util/TreeMap$Entry" 23 3 _ rfl (Nat.le_of_ble_eq_true rfl) q1673 (Or.inl rfl) rfl h75 (Nat.le_of_ble_eq_true rfl) h75b (nar_ro _ _) (fit_ro _ _) ?_
        refine r_aload_n (M := m_J18_rotateRight) (pc := 90) dJ18_rotateRight_90 1 rfl rfl ?_
        refine r_aload_n (M := m_J18_rotateRight) (pc := 91) dJ18_rotateRight_91 2 rfl rfl ?_
        obtain ⟨a77, fs78, e9, h79, h79b, H⟩ := H; cases e9
        refine r_put (M := m_J18_rotateRight) (pc := 92) dJ18_rotateRight_92 "java/util/TreeMap$Entry" 23 4 _ rfl (Nat.le_of_ble_eq_true rfl) q1675 (Or.inl rfl) rfl h79 (Nat.le_of_ble_eq_true rfl) h79b (nar_ro _ _) (fit_ro _ _) ?_
        exact r_return (M := m_J18_rotateRight) (pc := 95) dJ18_rotateRight_95 rfl H
    · replace H := f_if H hc
      refine r_aload_n (M := m_J18_rotateRight) (pc := 24) dJ18_rotateRight_24 2 rfl rfl ?_
      obtain ⟨a82, fs83, x81, e9, h84, h84v, H⟩ := H; cases e9
      refine r_get (M := m_J18_rotateRight) (pc := 25) dJ18_rotateRight_25 "java/util/TreeMap$Entry" 23 3 _ rfl (Nat.le_of_ble_eq_true rfl) q1673 (Or.inl rfl) h84 (Nat.le_of_ble_eq_true rfl) h84v ?_
      refine r_aload_n (M := m_J18_rotateRight) (pc := 28) dJ18_rotateRight_28 1 rfl rfl ?_
      obtain ⟨a85, fs86, e9, h87, h87b, H⟩ := H; cases e9
      refine r_put (M := m_J18_rotateRight) (pc := 29) dJ18_rotateRight_29 "java/util/TreeMap$Entry" 23 4 _ rfl (Nat.le_of_ble_eq_true rfl) q1675 (Or.inl rfl) rfl h87 (Nat.le_of_ble_eq_true rfl) h87b (nar_ro _ _) (fit_ro _ _) ?_
      refine r_aload_n (M := m_J18_rotateRight) (pc := 32) dJ18_rotateRight_32 2 rfl rfl ?_
      refine r_aload_n (M := m_J18_rotateRight) (pc := 33) dJ18_rotateRight_33 1 rfl rfl ?_
      obtain ⟨a90, fs91, x89, e9, h92, h92v, H⟩ := H; cases e9
      refine r_get (M := m_J18_rotateRight) (pc := 34) dJ18_rotateRight_34 "java/util/TreeMap$Entry" 23 4 _ rfl (Nat.le_of_ble_eq_true rfl) q1675 (Or.inl rfl) h92 (Nat.le_of_ble_eq_true rfl) h92v ?_
      obtain ⟨a93, fs94, e9, h95, h95b, H⟩ := H; cases e9
      refine r_put (M := m_J18_rotateRight) (pc := 37) dJ18_rotateRight_37 "java/util/TreeMap$Entry" 23 4 _ rfl (Nat.le_of_ble_eq_true rfl) q1675 (Or.inl rfl) rfl h95 (Nat.le_of_ble_eq_true rfl) h95b (nar_ro _ _) (fit_ro _ _) ?_
      refine r_aload_n (M := m_J18_rotateRight) (pc := 40) dJ18_rotateRight_40 1 rfl rfl ?_
      obtain ⟨a98, fs99, x97, e9, h100, h100v, H⟩ := H; cases e9
      refine r_get (M := m_J18_rotateRight) (pc := 41) dJ18_rotateRight_41 "java/util/TreeMap$Entry" 23 4 _ rfl (Nat.le_of_ble_eq_true rfl) q1675 (Or.inl rfl) h100 (Nat.le_of_ble_eq_true rfl) h100v ?_
      refine r_ifnonnull (M := m_J18_rotateRight) (pc := 44) dJ18_rotateRight_44 55 (by decide) (fun hc => ?_) (fun hc => ?_)
      · replace H := f_if H hc
        refine r_aload_n (M := m_J18_rotateRight) (pc := 55) dJ18_rotateRight_55 1 rfl rfl ?_
        obtain ⟨a102, fs103, x101, e9, h104, h104v, H⟩ := H; cases e9
        refine r_get (M := m_J18_rotateRight) (pc := 56) dJ18_rotateRight_56 "java/util/TreeMap$Entry" 23 4 _ rfl (Nat.le_of_ble_eq_true rfl) q1675 (Or.inl rfl) h104 (Nat.le_of_ble_eq_true rfl) h104v ?_
        obtain ⟨a106, fs107, x105, e9, h108, h108v, H⟩ := H; cases e9
        refine r_get (M := m_J18_rotateRight) (pc := 59) dJ18_rotateRight_59 "java/util/TreeMap$Entry" 23 3 _ rfl (Nat.le_of_ble_eq_true rfl) q1673 (Or.inl rfl) h108 (Nat.le_of_ble_eq_true rfl) h108v ?_
        refine r_aload_n (M := m_J18_rotateRight) (pc := 62) dJ18_rotateRight_62 1 rfl rfl ?_
        refine r_acmp_ne (M := m_J18_rotateRight) (pc := 63) dJ18_rotateRight_63 77 (by decide) (fun hc => ?_) (fun hc => ?_)
        · replace H := f_if H hc
          refine r_aload_n (M := m_J18_rotateRight) (pc := 77) dJ18_rotateRight_77 1 rfl rfl ?_
          obtain ⟨a110, fs111, x109, e9, h112, h112v, H⟩ := H; cases e9
          refine r_get (M := m_J18_rotateRight) (pc := 78) dJ18_rotateRight_78 "java/util/TreeMap$Entry" 23 4 _ rfl (Nat.le_of_ble_eq_true rfl) q1675 (Or.inl rfl) h112 (Nat.le_of_ble_eq_true rfl) h112v ?_
          refine r_aload_n (M := m_J18_rotateRight) (pc := 81) dJ18_rotateRight_81 2 rfl rfl ?_
          obtain ⟨a113, fs114, e9, h115, h115b, H⟩ := H; cases e9
          refine r_put (M := m_J18_rotateRight) (pc := 82) dJ18_rotateRight_82 "java/util/TreeMap$Entry" 23 2 _ rfl (Nat.le_of_ble_eq_true rfl) q1672 (Or.inl rfl) rfl h115 (Nat.le_of_ble_eq_true rfl) h115b (nar_ro _ _) (fit_ro _ _) ?_
          refine r_aload_n (M := m_J18_rotateRight) (pc := 85) dJ18_rotateRight_85 2 rfl rfl ?_
          refine r_aload_n (M := m_J18_rotateRight) (pc := 86) dJ18_rotateRight_86 1 rfl rfl ?_
          obtain ⟨a117, fs118, e9, h119, h119b, H⟩ := H; cases e9
          refine r_put (M := m_J18_rotateRight) (pc := 87) dJ18_rotateRight_87 "java/util/TreeMap$Entry" 23 3 _ rfl (Nat.le_of_ble_eq_true rfl) q1673 (Or.inl rfl) rfl h119 (Nat.le_of_ble_eq_true rfl) h119b (nar_ro _ _) (fit_ro _ _) ?_
          refine r_aload_n (M := m_J18_rotateRight) (pc := 90) dJ18_rotateRight_90 1 rfl rfl ?_
          refine r_aload_n (M := m_J18_rotateRight) (pc := 91) dJ18_rotateRight_91 2 rfl rfl ?_
          obtain ⟨a121, fs122, e9, h123, h123b, H⟩ := H; cases e9
          refine r_put (M := m_J18_rotateRight) (pc := 92) dJ18_rotateRight_92 "java/util/TreeMap$Entry" 23 4 _ rfl (Nat.le_of_ble_eq_true rfl) q1675 (Or.inl rfl) rfl h123 (Nat.le_of_ble_eq_true rfl) h123b (nar_ro _ _) (fit_ro _ _) ?_
          exact r_return (M := m_J18_rotateRight) (pc := 95) dJ18_rotateRight_95 rfl H
        · replace H := f_it H hc
          refine r_aload_n (M := m_J18_rotateRight) (pc := 66) dJ18_rotateRight_66 1 rfl rfl ?_
          obtain ⟨a126, fs127, x125, e9, h128, h128v, H⟩ := H; cases e9
          refine r_get (M := m_J18_rotateRight) (pc := 67) dJ18_rotateRight_67 "java/util/TreeMap$Entry" 23 4 _ rfl (Nat.le_of_ble_eq_true rfl) q1675 (Or.inl rfl) h128 (Nat.le_of_ble_eq_true rfl) h128v ?_
          refine r_aload_n (M := m_J18_rotateRight) (pc := 70) dJ18_rotateRight_70 2 rfl rfl ?_
          obtain ⟨a129, fs130, e9, h131, h131b, H⟩ := H; cases e9
          refine r_put (M := m_J18_rotateRight) (pc := 71) dJ18_rotateRight_71 "java/util/TreeMap$Entry" 23 3 _ rfl (Nat.le_of_ble_eq_true rfl) q1673 (Or.inl rfl) rfl h131 (Nat.le_of_ble_eq_true rfl) h131b (nar_ro _ _) (fit_ro _ _) ?_
          refine r_goto (M := m_J18_rotateRight) (pc := 74) dJ18_rotateRight_74 85 (by decide) ?_
          refine r_aload_n (M := m_J18_rotateRight) (pc := 85) dJ18_rotateRight_85 2 rfl rfl ?_
          refine r_aload_n (M := m_J18_rotateRight) (pc := 86) dJ18_rotateRight_86 1 rfl rfl ?_
          obtain ⟨a133, fs134, e9, h135, h135b, H⟩ := H; cases e9
          refine r_put (M := m_J18_rotateRight) (pc := 87) dJ18_rotateRight_87 "java/util/TreeMap$Entry" 23 3 _ rfl (Nat.le_of_ble_eq_true rfl) q1673 (Or.inl rfl) rfl h135 (Nat.le_of_ble_eq_true rfl) h135b (nar_ro _ _) (fit_ro _ _) ?_
          refine r_aload_n (M := m_J18_rotateRight) (pc := 90) dJ18_rotateRight_90 1 rfl rfl ?_
          refine r_aload_n (M := m_J18_rotateRight) (pc := 91) dJ18_rotateRight_91 2 rfl rfl ?_
          obtain ⟨a137, fs138, e9, h139, h139b, H⟩ := H; cases e9
          refine r_put (M := m_J18_rotateRight) (pc := 92) dJ18_rotateRight_92 "java/util/TreeMap$Entry" 23 4 _ rfl (Nat.le_of_ble_eq_true rfl) q1675 (Or.inl rfl) rfl h139 (Nat.le_of_ble_eq_true rfl) h139b (nar_ro _ _) (fit_ro _ _) ?_
          exact r_return (M := m_J18_rotateRight) (pc := 95) dJ18_rotateRight_95 rfl H
      · replace H := f_it H hc
        refine r_aload_n (M := m_J18_rotateRight) (pc := 47) dJ18_rotateRight_47 0 rfl rfl ?_
        refine r_aload_n (M := m_J18_rotateRight) (pc := 48) dJ18_rotateRight_48 2 rfl rfl ?_
        obtain ⟨a141, fs142, e9, h143, h143b, H⟩ := H; cases e9
        refine r_put (M := m_J18_rotateRight) (pc := 49) dJ18_rotateRight_49 "java/util/TreeMap" 22 3 _ rfl (Nat.le_of_ble_eq_true rfl) q1350 (Or.inl rfl) rfl h143 (Nat.le_of_ble_eq_true rfl) h143b (nar_ro _ _) (fit_ro _ _) ?_
        refine r_goto (M := m_J18_rotateRight) (pc := 52) dJ18_rotateRight_52 85 (by decide) ?_
        refine r_aload_n (M := m_J18_rotateRight) (pc := 85) dJ18_rotateRight_85 2 rfl rfl ?_
        refine r_aload_n (M := m_J18_rotateRight) (pc := 86) dJ18_rotateRight_86 1 rfl rfl ?_
        obtain ⟨a145, fs146, e9, h147, h147b, H⟩ := H; cases e9
        refine r_put (M := m_J18_rotateRight) (pc := 87) dJ18_rotateRight_87 "java/util/TreeMap$Entry" 23 3 _ rfl (Nat.le_of_ble_eq_true rfl) q1673 (Or.inl rfl) rfl h147 (Nat.le_of_ble_eq_true rfl) h147b (nar_ro _ _) (fit_ro _ _) ?_
        refine r_aload_n (M := m_J18_rotateRight) (pc := 90) dJ18_rotateRight_90 1 rfl rfl ?_
        refine r_aload_n (M := m_J18_rotateRight) (pc := 91) dJ18_rotateRight_91 2 rfl rfl ?_
        obtain ⟨a149, fs150, e9, h151, h151b, H⟩ := H; cases e9
        refine r_put (M := m_J18_rotateRight) (pc := 92) dJ18_rotateRight_92 "java/util/TreeMap$Entry" 23 4 _ rfl (Nat.le_of_ble_eq_true rfl) q1675 (Or.inl rfl) rfl h151 (Nat.le_of_ble_eq_true rfl) h151b (nar_ro _ _) (fit_ro _ _) ?_
        exact r_return (M := m_J18_rotateRight) (pc := 95) dJ18_rotateRight_95 rfl H
theorem e_J18_rotateRight {E : pw_E} {d : Nat} {w : pw_W} {Post : pw_R → pw_W → Prop} (v0 : Option Nat) (v1 : Option Nat) (H : pw_Wp E m_J18_rotateRight d 0 [some (va_rf v0), some (va_rf v1), none] [] w Post) : pw_Cl E m_J18_rotateRight d [va_rf v0, va_rf v1] w Post := pw_meth (by decide) rfl (pw_e1 (pw_cat_rf _) (pw_e1 (pw_cat_rf _) (pw_e0 (n := 1)))) H
theorem s_J18_setColor_0 {E : pw_E} {d : Nat} {w : pw_W} {Post : pw_R → pw_W → Prop} (v0 : Option Nat) (v1 : Bool) (H : (if v0 = none then Post (.inl none) w else f_put E w v0 23 5 (.int (bI v1)) (fun w4 => Post (.inl none) w4))) : pw_Wp E m_J18_setColor (d + 1) 0 [some (va_rf v0), some (.int (bI v1))] [] w Post := by
  refine r_aload_n (M := m_J18_setColor) (pc := 0) dJ18_setColor_0 0 rfl rfl ?_
  refine r_ifnull (M := m_J18_setColor) (pc := 1) dJ18_setColor_1 9 (by decide) (fun hc => ?_) (fun hc => ?_)
  · replace H := f_it H hc
    exact r_return (M := m_J18_setColor) (pc := 9) dJ18_setColor_9 rfl H
  · replace H := f_if H hc
    refine r_aload_n (M := m_J18_setColor) (pc := 4) dJ18_setColor_4 0 rfl rfl ?_
    refine r_iload_n (M := m_J18_setColor) (pc := 5) dJ18_setColor_5 1 rfl rfl ?_
    obtain ⟨a1, fs2, e9, h3, h3b, H⟩ := H; cases e9
    refine r_put (M := m_J18_setColor) (pc := 6) dJ18_setColor_6 "java/util/TreeMap$Entry" 23 5 _ rfl (Nat.le_of_ble_eq_true rfl) q1677 (Or.inl rfl) rfl h3 (Nat.le_of_ble_eq_true rfl) h3b (nar_bI _) (fit_bI _) ?_
    exact r_return (M := m_J18_setColor) (pc := 9) dJ18_setColor_9 rfl H
theorem e_J18_setColor {E : pw_E} {d : Nat} {w : pw_W} {Post : pw_R → pw_W → Prop} (v0 : Option Nat) (v1 : Bool) (H : pw_Wp E m_J18_setColor d 0 [some (va_rf v0), some (.int (bI v1))] [] w Post) : pw_Cl E m_J18_setColor d [va_rf v0, .int (bI v1)] w Post := pw_meth (by decide) rfl (pw_e1 (pw_cat_rf _) (pw_e1 rfl (pw_e0 (n := 0)))) H
theorem s_J18_size_0 {E : pw_E} {d : Nat} {w : pw_W} {Post : pw_R → pw_W → Prop} (v0 : Option Nat) (H : f_geti w v0 22 4 (fun x1 => Post (.inl (some (.int x1))) w)) : pw_Wp E m_J18_size (d + 1) 0 [some (va_rf v0)] [] w Post := by
  refine r_aload_n (M := m_J18_size) (pc := 0) dJ18_size_0 0 rfl rfl ?_
  obtain ⟨a2, fs3, x1, e9, h4, h4v, H⟩ := H; cases e9
  refine r_get (M := m_J18_size) (pc := 1) dJ18_size_1 "java/util/TreeMap" 22 4 _ rfl (Nat.le_of_ble_eq_true rfl) q1351 (Or.inl rfl) h4 (Nat.le_of_ble_eq_true rfl) h4v ?_
  exact r_ireturn (M := m_J18_size) (pc := 4) dJ18_size_4 rfl H
theorem e_J18_size {E : pw_E} {d : Nat} {w : pw_W} {Post : pw_R → pw_W → Prop} (v0 : Option Nat) (H : pw_Wp E m_J18_size d 0 [some (va_rf v0)] [] w Post) : pw_Cl E m_J18_size d [va_rf v0] w Post := pw_meth (by decide) rfl (pw_e1 (pw_cat_rf _) (pw_e0 (n := 0))) H
theorem s_J18_successor_0 {E : pw_E} {d : Nat} {w : pw_W} {Post : pw_R → pw_W → Prop} (v0 : Option Nat) (H : (if v0 = none then Post (.inl (some (va_rf none))) w else f_getr w v0 23 3 (fun x1 => (if x1 = none then f_getr w v0 23 4 (fun x5 => pw_Wp E m_J18_successor (d + 1) 42 [none, some (va_rf x5), some (va_rf v0)] [] w Post) else f_getr w v0 23 3 (fun x9 => pw_Wp E m_J18_successor (d + 1) 18 [none, some (va_rf x9), none] [] w Post))))) : pw_Wp E m_J18_successor (d + 1) 0 [some (va_rf v0), none, none] [] w Post := by
  refine r_aload_n (M := m_J18_successor) (pc := 0) dJ18_successor_0 0 rfl rfl ?_
  refine r_ifnonnull (M := m_J18_successor) (pc := 1) dJ18_successor_1 6 (by decide) (fun hc => ?_) (fun hc => ?_)
  · replace H := f_if H hc
    refine r_aload_n (M := m_J18_successor) (pc := 6) dJ18_successor_6 0 rfl rfl ?_
    obtain ⟨a2, fs3, x1, e9, h4, h4v, H⟩ := H; cases e9
    refine r_get (M := m_J18_successor) (pc := 7) dJ18_successor_7 "java/util/TreeMap$Entry" 23 3 _ rfl (Nat.le_of_ble_eq_true rfl) q1673 (Or.inl rfl) h4 (Nat.le_of_ble_eq_true rfl) h4v ?_
    refine r_ifnull (M := m_J18_successor) (pc := 10) dJ18_successor_10 35 (by decide) (fun hc => ?_) (fun hc => ?_)
    · replace H := f_it H hc
      refine r_aload_n (M := m_J18_successor) (pc := 35) dJ18_successor_35 0 rfl rfl ?_
      obtain ⟨a6, fs7, x5, e9, h8, h8v, H⟩ := H; cases e9
      refine r_get (M := m_J18_successor) (pc := 36) dJ18_successor_36 "java/util/TreeMap$Entry" 23 4 _ rfl (Nat.le_of_ble_eq_true rfl) q1675 (Or.inl rfl) h8 (Nat.le_of_ble_eq_true rfl) h8v ?_
      refine r_astore_n (M := m_J18_successor) (pc := 39) dJ18_successor_39 1 rfl (Nat.le_of_ble_eq_true rfl) (pw_pre_rf rfl) ?_
      refine r_aload_n (M := m_J18_successor) (pc := 40) dJ18_successor_40 0 rfl rfl ?_
      refine r_astore_n (M := m_J18_successor) (pc := 41) dJ18_successor_41 2 rfl (Nat.le_of_ble_eq_true rfl) (pw_pre_rf rfl) ?_
      exact pw_weak (le_n (le_s (le_s le_0))) H
    · replace H := f_if H hc
      refine r_aload_n (M := m_J18_successor) (pc := 13) dJ18_successor_13 0 rfl rfl ?_
      obtain ⟨a10, fs11, x9, e9, h12, h12v, H⟩ := H; cases e9
      refine r_get (M := m_J18_successor) (pc := 14) dJ18_successor_14 "java/util/TreeMap$Entry" 23 3 _ rfl (Nat.le_of_ble_eq_true rfl) q1673 (Or.inl rfl) h12 (Nat.le_of_ble_eq_true rfl) h12v ?_
      refine r_astore_n (M := m_J18_successor) (pc := 17) dJ18_successor_17 1 rfl (Nat.le_of_ble_eq_true rfl) (pw_pre_rf rfl) ?_
      exact pw_weak (le_n (le_s (le_n le_0))) H
  · replace H := f_it H hc
    refine r_null (M := m_J18_successor) (pc := 4) dJ18_successor_4 ?_
    exact r_areturn (M := m_J18_successor) (pc := 5) dJ18_successor_5 rfl (by simp) H
theorem s_J18_successor_18 {E : pw_E} {d : Nat} {w : pw_W} {Post : pw_R → pw_W → Prop} (v1 : Option Nat) (H : f_getr w v1 23 2 (fun x1 => (if x1 = none then Post (.inl (some (va_rf v1))) w else f_getr w v1 23 2 (fun x5 => pw_Wp E m_J18_successor (d + 1) 18 [none, some (va_rf x5), none] [] w Post)))) : pw_Wp E m_J18_successor (d + 1) 18 [none, some (va_rf v1), none] [] w Post := by
  refine r_aload_n (M := m_J18_successor) (pc := 18) dJ18_successor_18 1 rfl rfl ?_
  obtain ⟨a2, fs3, x1, e9, h4, h4v, H⟩ := H; cases e9
  refine r_get (M := m_J18_successor) (pc := 19) dJ18_successor_19 "java/util/TreeMap$Entry" 23 2 _ rfl (Nat.le_of_ble_eq_true rfl) q1672 (Or.inl rfl) h4 (Nat.le_of_ble_eq_true rfl) h4v ?_
  refine r_ifnull (M := m_J18_successor) (pc := 22) dJ18_successor_22 33 (by decide) (fun hc => ?_) (fun hc => ?_)
  · replace H := f_it H hc
    refine r_aload_n (M := m_J18_successor) (pc := 33) dJ18_successor_33 1 rfl rfl ?_
    exact r_areturn (M := m_J18_successor) (pc := 34) dJ18_successor_34 rfl (by simp) H
  · replace H := f_if H hc
    refine r_aload_n (M := m_J18_successor) (pc := 25) dJ18_successor_25 1 rfl rfl ?_
    obtain ⟨a6, fs7, x5, e9, h8, h8v, H⟩ := H; cases e9
    refine r_get (M := m_J18_successor) (pc := 26) dJ18_successor_26 "java/util/TreeMap$Entry" 23 2 _ rfl (Nat.le_of_ble_eq_true rfl) q1672 (Or.inl rfl) h8 (Nat.le_of_ble_eq_true rfl) h8v ?_
    refine r_astore_n (M := m_J18_successor) (pc := 29) dJ18_successor_29 1 rfl (Nat.le_of_ble_eq_true rfl) rfl ?_
    refine r_goto (M := m_J18_successor) (pc := 30) dJ18_successor_30 18 (by decide) ?_
    exact pw_weak (le_n (le_s (le_n le_0))) H
theorem s_J18_successor_42 {E : pw_E} {d : Nat} {w : pw_W} {Post : pw_R → pw_W → Prop} (v1 : Option Nat) (v2 : Option Nat) (H : (if v1 = none then Post (.inl (some (va_rf v1))) w else f_getr w v1 23 3 (fun x1 => (if v2 = x1 then f_getr w v1 23 4 (fun x5 => pw_Wp E m_J18_successor (d + 1) 42 [none, some (va_rf x5), some (va_rf v1)] [] w Post) else Post (.inl (some (va_rf v1))) w)))) : pw_Wp E m_J18_successor (d + 1) 42 [none, some (va_rf v1), some (va_rf v2)] [] w Post := by
  refine r_aload_n (M := m_J18_successor) (pc := 42) dJ18_successor_42 1 rfl rfl ?_
  refine r_ifnull (M := m_J18_successor) (pc := 43) dJ18_successor_43 64 (by decide) (fun hc => ?_) (fun hc => ?_)
  · replace H := f_it H hc
    refine r_aload_n (M := m_J18_successor) (pc := 64) dJ18_successor_64 1 rfl rfl ?_
    exact r_areturn (M := m_J18_successor) (pc := 65) dJ18_successor_65 rfl (by simp) H
  · replace H := f_if H hc
    refine r_aload_n (M := m_J18_successor) (pc := 46) dJ18_successor_46 2 rfl rfl ?_
    refine r_aload_n (M := m_J18_successor) (pc := 47) dJ18_successor_47 1 rfl rfl ?_
    obtain ⟨a2, fs3, x1, e9, h4, h4v, H⟩ := H; cases e9
    refine r_get (M := m_J18_successor) (pc := 48) dJ18_successor_48 "java/util/TreeMap$Entry" 23 3 _ rfl (Nat.le_of_ble_eq_true rfl) q1673 (Or.inl rfl) h4 (Nat.le_of_ble_eq_true rfl) h4v ?_
    refine r_acmp_ne (M := m_J18_successor) (pc := 51) dJ18_successor_51 64 (by decide) (fun hc => ?_) (fun hc => ?_)
    · replace H := f_if H hc
      refine r_aload_n (M := m_J18_successor) (pc := 64) dJ18_successor_64 1 rfl rfl ?_
      exact r_areturn (M := m_J18_successor) (pc := 65) dJ18_successor_65 rfl (by simp) H
    · replace H := f_it H hc
      refine r_aload_n (M := m_J18_successor) (pc := 54) dJ18_successor_54 1 rfl rfl ?_
      refine r_astore_n (M := m_J18_successor) (pc := 55) dJ18_successor_55 2 rfl (Nat.le_of_ble_eq_true rfl) (pw_pre_rf rfl) ?_
      refine r_aload_n (M := m_J18_successor) (pc := 56) dJ18_successor_56 1 rfl rfl ?_
      obtain ⟨a6, fs7, x5, e9, h8, h8v, H⟩ := H; cases e9
      refine r_get (M := m_J18_successor) (pc := 57) dJ18_successor_57 "java/util/TreeMap$Entry" 23 4 _ rfl (Nat.le_of_ble_eq_true rfl) q1675 (Or.inl rfl) h8 (Nat.le_of_ble_eq_true rfl) h8v ?_
      refine r_astore_n (M := m_J18_successor) (pc := 60) dJ18_successor_60 1 rfl (Nat.le_of_ble_eq_true rfl) rfl ?_
      refine r_goto (M := m_J18_successor) (pc := 61) dJ18_successor_61 42 (by decide) ?_
      exact pw_weak (le_n (le_s (le_s le_0))) H
theorem e_J18_successor {E : pw_E} {d : Nat} {w : pw_W} {Post : pw_R → pw_W → Prop} (v0 : Option Nat) (H : pw_Wp E m_J18_successor d 0 [some (va_rf v0), none, none] [] w Post) : pw_Cl E m_J18_successor d [va_rf v0] w Post := pw_meth (by decide) rfl (pw_e1 (pw_cat_rf _) (pw_e0 (n := 2))) H
theorem s_J19_checkIndex_0 {E : pw_E} {d : Nat} {w : pw_W} {Post : pw_R → pw_W → Prop} (v0 : Int32) (v1 : Int32) (H : pw_Cl E m_J12_checkIndex d [.int v0, .int v1, va_rf none] w (c_i (fun x2 w1 => Post (.inl (some (.int x2))) w1))) : pw_Wp E m_J19_checkIndex (d + 1) 0 [some (.int v0), some (.int v1)] [] w Post := by
  refine r_iload_n (M := m_J19_checkIndex) (pc := 0) dJ19_checkIndex_0 0 rfl rfl ?_
  refine r_iload_n (M := m_J19_checkIndex) (pc := 1) dJ19_checkIndex_1 1 rfl rfl ?_
  refine r_null (M := m_J19_checkIndex) (pc := 2) dJ19_checkIndex_2 ?_
  refine r_S (M := m_J19_checkIndex) (pc := 3) dJ19_checkIndex_3 m_J12_checkIndex k_J12_checkIndex q979 q462 (av := [.int _, .int _, va_rf _]) (dy := d) n_J12_checkIndex rfl (pw_c4 (Nat.le_of_ble_eq_true rfl)) (Nat.le_refl _) (H.mono (pw_nx_i (fun x2 w1 H1 => ?_)))
  replace H := H1; clear H1
  exact r_ireturn (M := m_J19_checkIndex) (pc := 6) dJ19_checkIndex_6 rfl H
theorem e_J19_checkIndex {E : pw_E} {d : Nat} {w : pw_W} {Post : pw_R → pw_W → Prop} (v0 : Int32) (v1 : Int32) (H : pw_Wp E m_J19_checkIndex d 0 [some (.int v0), some (.int v1)] [] w Post) : pw_Cl E m_J19_checkIndex d [.int v0, .int v1] w Post := pw_meth (by decide) rfl (pw_e1 rfl (pw_e1 rfl (pw_e0 (n := 0)))) H
theorem s_J19_requireNonNull_0 {E : pw_E} {d : Nat} {w : pw_W} {Post : pw_R → pw_W → Prop} (v0 : Option Nat) (H : (if v0 = none then False else Post (.inl (some (va_rf v0))) w)) : pw_Wp E m_J19_requireNonNull (d + 1) 0 [some (va_rf v0)] [] w Post := by
  refine r_aload_n (M := m_J19_requireNonNull) (pc := 0) dJ19_requireNonNull_0 0 rfl rfl ?_
  refine r_ifnonnull (M := m_J19_requireNonNull) (pc := 1) dJ19_requireNonNull_1 12 (by decide) (fun hc => ?_) (fun hc => ?_)
  · replace H := f_if H hc
    refine r_aload_n (M := m_J19_requireNonNull) (pc := 12) dJ19_requireNonNull_12 0 rfl rfl ?_
    exact r_areturn (M := m_J19_requireNonNull) (pc := 13) dJ19_requireNonNull_13 rfl (by simp) H
  · replace H := f_it H hc
    exact H.elim
theorem e_J19_requireNonNull {E : pw_E} {d : Nat} {w : pw_W} {Post : pw_R → pw_W → Prop} (v0 : Option Nat) (H : pw_Wp E m_J19_requireNonNull d 0 [some (va_rf v0)] [] w Post) : pw_Cl E m_J19_requireNonNull d [va_rf v0] w Post := pw_meth (by decide) rfl (pw_e1 (pw_cat_rf _) (pw_e0 (n := 0))) H
theorem s_J1_init_0 {E : pw_E} {d : Nat} {w : pw_W} {Post : pw_R → pw_W → Prop} (a0 : Nat) (H : pw_Cl E m_J0_init d (va_rf (some a0) :: []) w (c_v (fun w1 => f_put E w1 (some a0) 18 0 (.int 0) (fun w5 => Post (.inl none) w5)))) : pw_Wp E m_J1_init (d + 1) 0 [some (va_rf (some a0))] [] w Post := by
  refine r_aload_n (M := m_J1_init) (pc := 0) dJ1_init_0 0 rfl rfl ?_
  refine r_I (M := m_J1_init) (pc := 1) dJ1_init_1 m_J0_init k_J0_init rfl rfl q213 q214 (av := []) (dy := d) n_J0_init rfl (pw_c4 (Nat.le_of_ble_eq_true rfl)) (Nat.le_refl _) (H.mono (pw_nx_v (fun w1 H1 => ?_)))
  replace H := H1; clear H1
  refine r_aload_n (M := m_J1_init) (pc := 4) dJ1_init_4 0 rfl rfl ?_
  refine r_iconst (M := m_J1_init) (pc := 5) dJ1_init_5 0 rfl ?_
  obtain ⟨a2, fs3, e9, h4, h4b, H⟩ := H; cases e9
  refine r_put (M := m_J1_init) (pc := 6) dJ1_init_6 "java/util/AbstractList" 18 0 _ rfl (Nat.le_of_ble_eq_true rfl) q225 (Or.inl rfl) rfl h4 (Nat.le_of_ble_eq_true rfl) h4b rfl rfl ?_
  exact r_return (M := m_J1_init) (pc := 9) dJ1_init_9 rfl H
theorem e_J1_init {E : pw_E} {d : Nat} {w : pw_W} {Post : pw_R → pw_W → Prop} (a0 : Nat) (H : pw_Wp E m_J1_init d 0 [some (va_rf (some a0))] [] w Post) : pw_Cl E m_J1_init d [va_rf (some a0)] w Post := pw_meth (by decide) rfl (pw_e1 (pw_cat_rf _) (pw_e0 (n := 0))) H
theorem s_J20_init_0 {E : pw_E} {d : Nat} {w : pw_W} {Post : pw_R → pw_W → Prop} (a0 : Nat) (H : Post (.inl none) w) : pw_Wp E m_J20_init (d + 1) 0 [some (va_rf (some a0))] [] w Post := by
  refine r_aload_n (M := m_J20_init) (pc := 0) dJ20_init_0 0 rfl rfl ?_
  refine r_objInit (M := m_J20_init) (pc := 1) dJ20_init_1 q1004 q197 q198 (Nat.succ_pos _) (Nat.le_of_ble_eq_true rfl) ?_
  exact r_return (M := m_J20_init) (pc := 4) dJ20_init_4 rfl H
theorem e_J20_init {E : pw_E} {d : Nat} {w : pw_W} {Post : pw_R → pw_W → Prop} (a0 : Nat) (H : pw_Wp E m_J20_init d 0 [some (va_rf (some a0))] [] w Post) : pw_Cl E m_J20_init d [va_rf (some a0)] w Post := pw_meth (by decide) rfl (pw_e1 (pw_cat_rf _) (pw_e0 (n := 0))) H
theorem s_J21_bitCount_0 {E : pw_E} {d : Nat} {w : pw_W} {Post : pw_R → pw_W → Prop} (v0 : Int32) (H : Post (.inl (some (.int ((((((((v0 - (((v0.toUInt32 >>> ((1 : Int32).toUInt32 &&& Int32.toUInt32 31)).toInt32) &&& 1431655765)) &&& 858993459) + ((((v0 - (((v0.toUInt32 >>> ((1 : Int32).toUInt32 &&& Int32.toUInt32 31)).toInt32) &&& 1431655765)).toUInt32 >>> ((2 : Int32).toUInt32 &&& Int32.toUInt32 31)).toInt32) &&& 858993459)) + (((((v0 - (((v0.toUInt32 >>> ((1 : Int32).toUInt32 &&& Int32.toUInt32 31)).toInt32) &&& 1431655765)) &&& 858993459) + ((((v0 - (((v0.toUInt32 >>> ((1 : Int32).toUInt32 &&& Int32.toUInt32 31)).toInt32) &&& 1431655765)).toUInt32 >>> ((2 : Int32).toUInt32 &&& Int32.toUInt32 31)).toInt32) &&& 858993459)).toUInt32 >>> ((4 : Int32).toUInt32 &&& Int32.toUInt32 31)).toInt32)) &&& 252645135) + (((((((v0 - (((v0.toUInt32 >>> ((1 : Int32).toUInt32 &&& Int32.toUInt32 31)).toInt32) &&& 1431655765)) &&& 858993459) + ((((v0 - (((v0.toUInt32 >>> ((1 : Int32).toUInt32 &&& Int32.toUInt32 31)).toInt32) &&& 1431655765)).toUInt32 >>> ((2 : Int32).toUInt32 &&& Int32.toUInt32 31)).toInt32) &&& 858993459)) + (((((v0 - (((v0.toUInt32 >>> ((1 : Int32).toUInt32 &&& Int32.toUInt32 31)).toInt32) &&& 1431655765)) &&& 858993459) + ((((v0 - (((v0.toUInt32 >>> ((1 : Int32).toUInt32 &&& Int32.toUInt32 31)).toInt32) &&& 1431655765)).toUInt32 >>> ((2 : Int32).toUInt32 &&& Int32.toUInt32 31)).toInt32) &&& 858993459)).toUInt32 >>> ((4 : Int32).toUInt32 &&& Int32.toUInt32 31)).toInt32)) &&& 252645135).toUInt32 >>> ((8 : Int32).toUInt32 &&& Int32.toUInt32 31)).toInt32)) + ((((((((v0 - (((v0.toUInt32 >>> ((1 : Int32).toUInt32 &&& Int32.toUInt32 31)).toInt32) &&& 1431655765)) &&& 858993459) + ((((v0 - (((v0.toUInt32 >>> ((1 : Int32).toUInt32 &&& Int32.toUInt32 31)).toInt32) &&& 1431655765)).toUInt32 >>> ((2 : Int32).toUInt32 &&& Int32.toUInt32 31)).toInt32) &&& 858993459)) + (((((v0 - (((v0.toUInt32 >>> ((1 : Int32).toUInt32 &&& Int32.toUInt32 31)).toInt32) &&& 1431655765)) &&& 858993459) + ((((v0 - (((v0.toUInt32 >>> ((1 : Int32).toUInt32 &&& Int32.toUInt32 31)).toInt32) &&& 1431655765)).toUInt32 >>> ((2 : Int32).toUInt32 &&& Int32.toUInt32 31)).toInt32) &&& 858993459)).toUInt32 >>> ((4 : Int32).toUInt32 &&& Int32.toUInt32 31)).toInt32)) &&& 252645135) + (((((((v0 - (((v0.toUInt32 >>> ((1 : Int32).toUInt32 &&& Int32.toUInt32 31)).toInt32) &&& 1431655765)) &&& 858993459) + ((((v0 - (((v0.toUInt32 >>> ((1 : Int32).toUInt32 &&& Int32.toUInt32 31)).toInt32) &&& 1431655765)).toUInt32 >>> ((2 : Int32).toUInt32 &&& Int32.toUInt32 31)).toInt32) &&& 858993459)) + (((((v0 - (((v0.toUInt32 >>> ((1 : Int32).toUInt32 &&& Int32.toUInt32 31)).toInt32) &&& 1431655765)) &&& 858993459) + ((((v0 - (((v0.toUInt32 >>> ((1 : Int32).toUInt32 &&& Int32.toUInt32 31)).toInt32) &&& 1431655765)).toUInt32 >>> ((2 : Int32).toUInt32 &&& Int32.toUInt32 31)).toInt32) &&& 858993459)).toUInt32 >>> ((4 : Int32).toUInt32 &&& Int32.toUInt32 31)).toInt32)) &&& 252645135).toUInt32 >>> ((8 : Int32).toUInt32 &&& Int32.toUInt32 31)).toInt32)).toUInt32 >>> ((16 : Int32).toUInt32 &&& Int32.toUInt32 31)).toInt32)) &&& 63)))) w) : pw_Wp E m_J21_bitCount (d + 1) 0 [some (.int v0)] [] w Post := by
  refine r_iload_n (M := m_J21_bitCount) (pc := 0) dJ21_bitCount_0 0 rfl rfl ?_
  refine r_iload_n (M := m_J21_bitCount) (pc := 1) dJ21_bitCount_1 0 rfl rfl ?_
  refine r_iconst (M := m_J21_bitCount) (pc := 2) dJ21_bitCount_2 1 rfl ?_
  refine r_iushr (M := m_J21_bitCount) (pc := 3) dJ21_bitCount_3 ?_
  refine r_ldcw (M := m_J21_bitCount) (pc := 4) dJ21_bitCount_4 1431655765 q1309 ?_
  refine r_iand (M := m_J21_bitCount) (pc := 7) dJ21_bitCount_7 ?_
  refine r_isub (M := m_J21_bitCount) (pc := 8) dJ21_bitCount_8 ?_
  refine r_istore_n (M := m_J21_bitCount) (pc := 9) dJ21_bitCount_9 0 rfl (Nat.le_of_ble_eq_true rfl) rfl ?_
  refine r_iload_n (M := m_J21_bitCount) (pc := 10) dJ21_bitCount_10 0 rfl rfl ?_
  refine r_ldcw (M := m_J21_bitCount) (pc := 11) dJ21_bitCount_11 858993459 q1310 ?_
  refine r_iand (M := m_J21_bitCount) (pc := 14) dJ21_bitCount_14 ?_
  refine r_iload_n (M := m_J21_bitCount) (pc := 15) dJ21_bitCount_15 0 rfl rfl ?_
  refine r_iconst (M := m_J21_bitCount) (pc := 16) dJ21_bitCount_16 2 rfl ?_
  refine r_iushr (M := m_J21_bitCount) (pc := 17) dJ21_bitCount_17 ?_
  refine r_ldcw (M := m_J21_bitCount) (pc := 18) dJ21_bitCount_18 858993459 q1310 ?_
  refine r_iand (M := m_J21_bitCount) (pc := 21) dJ21_bitCount_21 ?_
  refine r_iadd (M := m_J21_bitCount) (pc := 22) dJ21_bitCount_22 ?_
  refine r_istore_n (M := m_J21_bitCount) (pc := 23) dJ21_bitCount_23 0 rfl (Nat.le_of_ble_eq_true rfl) rfl ?_
  refine r_iload_n (M := m_J21_bitCount) (pc := 24) dJ21_bitCount_24 0 rfl rfl ?_
  refine r_iload_n (M := m_J21_bitCount) (pc := 25) dJ21_bitCount_25 0 rfl rfl ?_
  refine r_iconst (M := m_J21_bitCount) (pc := 26) dJ21_bitCount_26 4 rfl ?_
  refine r_iushr (M := m_J21_bitCount) (pc := 27) dJ21_bitCount_27 ?_
  refine r_iadd (M := m_J21_bitCount) (pc := 28) dJ21_bitCount_28 ?_
  refine r_ldcw (M := m_J21_bitCount) (pc := 29) dJ21_bitCount_29 252645135 q1311 ?_
  refine r_iand (M := m_J21_bitCount) (pc := 32) dJ21_bitCount_32 ?_
  refine r_istore_n (M := m_J21_bitCount) (pc := 33) dJ21_bitCount_33 0 rfl (Nat.le_of_ble_eq_true rfl) rfl ?_
  refine r_iload_n (M := m_J21_bitCount) (pc := 34) dJ21_bitCount_34 0 rfl rfl ?_
  refine r_iload_n (M := m_J21_bitCount) (pc := 35) dJ21_bitCount_35 0 rfl rfl ?_
  refine r_bipush (M := m_J21_bitCount) (pc := 36) dJ21_bitCount_36 8 rfl ?_
  refine r_iushr (M := m_J21_bitCount) (pc := 38) dJ21_bitCount_38 ?_
  refine r_iadd (M := m_J21_bitCount) (pc := 39) dJ21_bitCount_39 ?_
  refine r_istore_n (M := m_J21_bitCount) (pc := 40) dJ21_bitCount_40 0 rfl (Nat.le_of_ble_eq_true rfl) rfl ?_
  refine r_iload_n (M := m_J21_bitCount) (pc := 41) dJ21_bitCount_41 0 rfl rfl ?_
  refine r_iload_n (M := m_J21_bitCount) (pc := 42) dJ21_bitCount_42 0 rfl rfl ?_
  refine r_bipush (M := m_J21_bitCount) (pc := 43) dJ21_bitCount_43 16 rfl ?_
  refine r_iushr (M := m_J21_bitCount) (pc := 45) dJ21_bitCount_45 ?_
  refine r_iadd (M := m_J21_bitCount) (pc := 46) dJ21_bitCount_46 ?_
  refine r_istore_n (M := m_J21_bitCount) (pc := 47) dJ21_bitCount_47 0 rfl (Nat.le_of_ble_eq_true rfl) rfl ?_
  refine r_iload_n (M := m_J21_bitCount) (pc := 48) dJ21_bitCount_48 0 rfl rfl ?_
  refine r_bipush (M := m_J21_bitCount) (pc := 49) dJ21_bitCount_49 63 rfl ?_
  refine r_iand (M := m_J21_bitCount) (pc := 51) dJ21_bitCount_51 ?_
  exact r_ireturn (M := m_J21_bitCount) (pc := 52) dJ21_bitCount_52 rfl H
theorem e_J21_bitCount {E : pw_E} {d : Nat} {w : pw_W} {Post : pw_R → pw_W → Prop} (v0 : Int32) (H : pw_Wp E m_J21_bitCount d 0 [some (.int v0)] [] w Post) : pw_Cl E m_J21_bitCount d [.int v0] w Post := pw_meth (by decide) rfl (pw_e1 rfl (pw_e0 (n := 0))) H
theorem s_J21_compare_0 {E : pw_E} {d : Nat} {w : pw_W} {Post : pw_R → pw_W → Prop} (v0 : Int32) (v1 : Int32) (H : (if v1 ≤ v0 then (if v0 = v1 then Post (.inl (some (.int 0))) w else Post (.inl (some (.int 1))) w) else Post (.inl (some (.int (-1)))) w)) : pw_Wp E m_J21_compare (d + 1) 0 [some (.int v0), some (.int v1)] [] w Post := by
  refine r_iload_n (M := m_J21_compare) (pc := 0) dJ21_compare_0 0 rfl rfl ?_
  refine r_iload_n (M := m_J21_compare) (pc := 1) dJ21_compare_1 1 rfl rfl ?_
  refine r_icmp_ge (M := m_J21_compare) (pc := 2) dJ21_compare_2 9 (by decide) (fun hc => ?_) (fun hc => ?_)
  · replace H := f_it H hc
    refine r_iload_n (M := m_J21_compare) (pc := 9) dJ21_compare_9 0 rfl rfl ?_
    refine r_iload_n (M := m_J21_compare) (pc := 10) dJ21_compare_10 1 rfl rfl ?_
    refine r_icmp_ne (M := m_J21_compare) (pc := 11) dJ21_compare_11 18 (by decide) (fun hc => ?_) (fun hc => ?_)
    · replace H := f_if H hc
      refine r_iconst (M := m_J21_compare) (pc := 18) dJ21_compare_18 1 rfl ?_
      exact r_ireturn (M := m_J21_compare) (pc := 19) dJ21_compare_19 rfl H
    · replace H := f_it H hc
      refine r_iconst (M := m_J21_compare) (pc := 14) dJ21_compare_14 0 rfl ?_
      refine r_goto (M := m_J21_compare) (pc := 15) dJ21_compare_15 19 (by decide) ?_
      exact r_ireturn (M := m_J21_compare) (pc := 19) dJ21_compare_19 rfl H
  · replace H := f_if H hc
    refine r_iconst (M := m_J21_compare) (pc := 5) dJ21_compare_5 (-1) rfl ?_
    refine r_goto (M := m_J21_compare) (pc := 6) dJ21_compare_6 19 (by decide) ?_
    exact r_ireturn (M := m_J21_compare) (pc := 19) dJ21_compare_19 rfl H
theorem e_J21_compare {E : pw_E} {d : Nat} {w : pw_W} {Post : pw_R → pw_W → Prop} (v0 : Int32) (v1 : Int32) (H : pw_Wp E m_J21_compare d 0 [some (.int v0), some (.int v1)] [] w Post) : pw_Cl E m_J21_compare d [.int v0, .int v1] w Post := pw_meth (by decide) rfl (pw_e1 rfl (pw_e1 rfl (pw_e0 (n := 0)))) H
theorem s_J21_compareTo_0 {E : pw_E} {d : Nat} {w : pw_W} {Post : pw_R → pw_W → Prop} (v0 : Option Nat) (v1 : Option Nat) (H : f_cast w v1 "java/lang/Integer" (f_V E w v0 28 m_J21_compareTo_2 d [va_rf v1] (c_i (fun x2 w1 => Post (.inl (some (.int x2))) w1)))) : pw_Wp E m_J21_compareTo (d + 1) 0 [some (va_rf v0), some (va_rf v1)] [] w Post := by
  refine r_aload_n (M := m_J21_compareTo) (pc := 0) dJ21_compareTo_0 0 rfl rfl ?_
  refine r_aload_n (M := m_J21_compareTo) (pc := 1) dJ21_compareTo_1 1 rfl rfl ?_
  obtain ⟨hk, H⟩ := H
  refine r_cast (M := m_J21_compareTo) (pc := 2) dJ21_compareTo_2 "java/lang/Integer" q996 hk ?_
  obtain ⟨a3, us4, e9, h5, H⟩ := H; cases e9
  refine r_V (M := m_J21_compareTo) (pc := 5) dJ21_compareTo_5 m_J21_compareTo_2 k_J21_compareTo_2 q1451 q1452 28 _ rfl q1453 (av := [va_rf _]) (dy := d) n_J21_compareTo_2 h5 rfl (pw_c4 (Nat.le_of_ble_eq_true rfl)) (Nat.le_refl _) (H.mono (pw_nx_i (fun x2 w1 H1 => ?_)))
  replace H := H1; clear H1
  exact r_ireturn (M := m_J21_compareTo) (pc := 8) dJ21_compareTo_8 rfl H
theorem e_J21_compareTo {E : pw_E} {d : Nat} {w : pw_W} {Post : pw_R → pw_W → Prop} (v0 : Option Nat) (v1 : Option Nat) (H : pw_Wp E m_J21_compareTo d 0 [some (va_rf v0), some (va_rf v1)] [] w Post) : pw_Cl E m_J21_compareTo d [va_rf v0, va_rf v1] w Post := pw_meth (by decide) rfl (pw_e1 (pw_cat_rf _) (pw_e1 (pw_cat_rf _) (pw_e0 (n := 0)))) H
theorem s_J21_compareTo_2_0 {E : pw_E} {d : Nat} {w : pw_W} {Post : pw_R → pw_W → Prop} (v0 : Option Nat) (v1 : Option Nat) (H : f_geti w v0 28 0 (fun x1 => f_geti w v1 28 0 (fun x5 => pw_Cl E m_J21_compare d [.int x1, .int x5] w (c_i (fun x10 w9 => Post (.inl (some (.int x10))) w9))))) : pw_Wp E m_J21_compareTo_2 (d + 1) 0 [some (va_rf v0), some (va_rf v1)] [] w Post := by
  refine r_aload_n (M := m_J21_compareTo_2) (pc := 0) dJ21_compareTo_2_0 0 rfl rfl ?_
  obtain ⟨a2, fs3, x1, e9, h4, h4v, H⟩ := H; cases e9
  refine r_get (M := m_J21_compareTo_2) (pc := 1) dJ21_compareTo_2_1 "java/lang/Integer" 28 0 _ rfl (Nat.le_of_ble_eq_true rfl) q1005 (Or.inl rfl) h4 (Nat.le_of_ble_eq_true rfl) h4v ?_
  refine r_aload_n (M := m_J21_compareTo_2) (pc := 4) dJ21_compareTo_2_4 1 rfl rfl ?_
  obtain ⟨a6, fs7, x5, e9, h8, h8v, H⟩ := H; cases e9
  refine r_get (M := m_J21_compareTo_2) (pc := 5) dJ21_compareTo_2_5 "java/lang/Integer" 28 0 _ rfl (Nat.le_of_ble_eq_true rfl) q1005 (Or.inl rfl) h8 (Nat.le_of_ble_eq_true rfl) h8v ?_
  refine r_S (M := m_J21_compareTo_2) (pc := 8) dJ21_compareTo_2_8 m_J21_compare k_J21_compare q1455 q1456 (av := [.int _, .int _]) (dy := d) n_J21_compare rfl (pw_c4 (Nat.le_of_ble_eq_true rfl)) (Nat.le_refl _) (H.mono (pw_nx_i (fun x10 w9 H1 => ?_)))
  replace H := H1; clear H1
  exact r_ireturn (M := m_J21_compareTo_2) (pc := 11) dJ21_compareTo_2_11 rfl H
theorem e_J21_compareTo_2 {E : pw_E} {d : Nat} {w : pw_W} {Post : pw_R → pw_W → Prop} (v0 : Option Nat) (v1 : Option Nat) (H : pw_Wp E m_J21_compareTo_2 d 0 [some (va_rf v0), some (va_rf v1)] [] w Post) : pw_Cl E m_J21_compareTo_2 d [va_rf v0, va_rf v1] w Post := pw_meth (by decide) rfl (pw_e1 (pw_cat_rf _) (pw_e1 (pw_cat_rf _) (pw_e0 (n := 0)))) H
theorem s_J21_init_0 {E : pw_E} {d : Nat} {w : pw_W} {Post : pw_R → pw_W → Prop} (a0 : Nat) (v1 : Int32) (H : pw_Cl E m_J20_init d (va_rf (some a0) :: []) w (c_v (fun w1 => f_put E w1 (some a0) 28 0 (.int v1) (fun w5 => Post (.inl none) w5)))) : pw_Wp E m_J21_init (d + 1) 0 [some (va_rf (some a0)), some (.int v1)] [] w Post := by
  refine r_aload_n (M := m_J21_init) (pc := 0) dJ21_init_0 0 rfl rfl ?_
  refine r_I (M := m_J21_init) (pc := 1) dJ21_init_1 m_J20_init k_J20_init rfl rfl q1001 q1002 (av := []) (dy := d) n_J20_init rfl (pw_c4 (Nat.le_of_ble_eq_true rfl)) (Nat.le_refl _) (H.mono (pw_nx_v (fun w1 H1 => ?_)))
  replace H := H1; clear H1
  refine r_aload_n (M := m_J21_init) (pc := 4) dJ21_init_4 0 rfl rfl ?_
  refine r_iload_n (M := m_J21_init) (pc := 5) dJ21_init_5 1 rfl rfl ?_
  obtain ⟨a2, fs3, e9, h4, h4b, H⟩ := H; cases e9
  refine r_putF (M := m_J21_init) (pc := 6) dJ21_init_6 "java/lang/Integer" 28 0 _ rfl (Nat.le_of_ble_eq_true rfl) q1005 (Or.inl rfl) rfl rfl rfl h4 (Nat.le_of_ble_eq_true rfl) h4b rfl rfl ?_
  exact r_return (M := m_J21_init) (pc := 9) dJ21_init_9 rfl H
theorem e_J21_init {E : pw_E} {d : Nat} {w : pw_W} {Post : pw_R → pw_W → Prop} (a0 : Nat) (v1 : Int32) (H : pw_Wp E m_J21_init d 0 [some (va_rf (some a0)), some (.int v1)] [] w Post) : pw_Cl E m_J21_init d [va_rf (some a0), .int v1] w Post := pw_meth (by decide) rfl (pw_e1 (pw_cat_rf _) (pw_e1 rfl (pw_e0 (n := 0)))) H
theorem s_J21_intValue_0 {E : pw_E} {d : Nat} {w : pw_W} {Post : pw_R → pw_W → Prop} (v0 : Option Nat) (H : f_geti w v0 28 0 (fun x1 => Post (.inl (some (.int x1))) w)) : pw_Wp E m_J21_intValue (d + 1) 0 [some (va_rf v0)] [] w Post := by
  refine r_aload_n (M := m_J21_intValue) (pc := 0) dJ21_intValue_0 0 rfl rfl ?_
  obtain ⟨a2, fs3, x1, e9, h4, h4v, H⟩ := H; cases e9
  refine r_get (M := m_J21_intValue) (pc := 1) dJ21_intValue_1 "java/lang/Integer" 28 0 _ rfl (Nat.le_of_ble_eq_true rfl) q1005 (Or.inl rfl) h4 (Nat.le_of_ble_eq_true rfl) h4v ?_
  exact r_ireturn (M := m_J21_intValue) (pc := 4) dJ21_intValue_4 rfl H
theorem e_J21_intValue {E : pw_E} {d : Nat} {w : pw_W} {Post : pw_R → pw_W → Prop} (v0 : Option Nat) (H : pw_Wp E m_J21_intValue d 0 [some (va_rf v0)] [] w Post) : pw_Cl E m_J21_intValue d [va_rf v0] w Post := pw_meth (by decide) rfl (pw_e1 (pw_cat_rf _) (pw_e0 (n := 0))) H
theorem s_J21_numberOfLeadingZeros_0 {E : pw_E} {d : Nat} {w : pw_W} {Post : pw_R → pw_W → Prop} (v0 : Int32) (H : (if 0 < v0 then (if v0 < 65536 then (if v0 < 256 then pw_Wp E m_J21_numberOfLeadingZeros (d + 1) 48 [some (.int v0), some (.int 31)] [] w Post else pw_Wp E m_J21_numberOfLeadingZeros (d + 1) 48 [some (.int ((v0.toUInt32 >>> ((8 : Int32).toUInt32 &&& Int32.toUInt32 31)).toInt32)), some (.int (31 + (-8)))] [] w Post) else (if ((v0.toUInt32 >>> ((16 : Int32).toUInt32 &&& Int32.toUInt32 31)).toInt32) < 256 then pw_Wp E m_J21_numberOfLeadingZeros (d + 1) 48 [some (.int ((v0.toUInt32 >>> ((16 : Int32).toUInt32 &&& Int32.toUInt32 31)).toInt32)), some (.int (31 + (-16)))] [] w Post else pw_Wp E m_J21_numberOfLeadingZeros (d + 1) 48 [some (.int ((((v0.toUInt32 >>> ((16 : Int32).toUInt32 &&& Int32.toUInt32 31)).toInt32).toUInt32 >>> ((8 : Int32).toUInt32 &&& Int32.toUInt32 31)).toInt32)), some (.int ((31 + (-16)) + (-8)))] [] w Post)) else (if v0 = 0 then Post (.inl (some (.int 32))) w else Post (.inl (some (.int 0))) w))) : pw_Wp E m_J21_numberOfLeadingZeros (d + 1) 0 [some (.int v0), none] [] w Post := by
  refine r_iload_n (M := m_J21_numberOfLeadingZeros) (pc := 0) dJ21_numberOfLeadingZeros_0 0 rfl rfl ?_
  refine r_if_gt (M := m_J21_numberOfLeadingZeros) (pc := 1) dJ21_numberOfLeadingZeros_1 15 (by decide) (fun hc => ?_) (fun hc => ?_)
  · replace H := f_it H hc
    refine r_bipush (M := m_J21_numberOfLeadingZeros) (pc := 15) dJ21_numberOfLeadingZeros_15 31 rfl ?_
    refine r_istore_n (M := m_J21_numberOfLeadingZeros) (pc := 17) dJ21_numberOfLeadingZeros_17 1 rfl (Nat.le_of_ble_eq_true rfl) rfl ?_
    refine r_iload_n (M := m_J21_numberOfLeadingZeros) (pc := 18) dJ21_numberOfLeadingZeros_18 0 rfl rfl ?_
    refine r_ldcw (M := m_J21_numberOfLeadingZeros) (pc := 19) dJ21_numberOfLeadingZeros_19 65536 q1549 ?_
    refine r_icmp_lt (M := m_J21_numberOfLeadingZeros) (pc := 22) dJ21_numberOfLeadingZeros_22 33 (by decide) (fun hc => ?_) (fun hc => ?_)
    · replace H := f_it H hc
      refine r_iload_n (M := m_J21_numberOfLeadingZeros) (pc := 33) dJ21_numberOfLeadingZeros_33 0 rfl rfl ?_
      refine r_sipush (M := m_J21_numberOfLeadingZeros) (pc := 34) dJ21_numberOfLeadingZeros_34 256 rfl ?_
      refine r_icmp_lt (M := m_J21_numberOfLeadingZeros) (pc := 37) dJ21_numberOfLeadingZeros_37 48 (by decide) (fun hc => ?_) (fun hc => ?_)
      · replace H := f_it H hc
        exact pw_weak (le_s (le_s le_0)) H
      · replace H := f_if H hc
        refine r_iinc (M := m_J21_numberOfLeadingZeros) (pc := 40) dJ21_numberOfLeadingZeros_40 (-8) rfl rfl (Nat.le_of_ble_eq_true rfl) rfl ?_
        refine r_iload_n (M := m_J21_numberOfLeadingZeros) (pc := 43) dJ21_numberOfLeadingZeros_43 0 rfl rfl ?_
        refine r_bipush (M := m_J21_numberOfLeadingZeros) (pc := 44) dJ21_numberOfLeadingZeros_44 8 rfl ?_
        refine r_iushr (M := m_J21_numberOfLeadingZeros) (pc := 46) dJ21_numberOfLeadingZeros_46 ?_
        refine r_istore_n (M := m_J21_numberOfLeadingZeros) (pc := 47) dJ21_numberOfLeadingZeros_47 0 rfl (Nat.le_of_ble_eq_true rfl) rfl ?_
        exact pw_weak (le_s (le_s le_0)) H
    · replace H := f_if H hc
      refine r_iinc (M := m_J21_numberOfLeadingZeros) (pc := 25) dJ21_numberOfLeadingZeros_25 (-16) rfl rfl (Nat.le_of_ble_eq_true rfl) rfl ?_
      refine r_iload_n (M := m_J21_numberOfLeadingZeros) (pc := 28) dJ21_numberOfLeadingZeros_28 0 rfl rfl ?_
      refine r_bipush (M := m_J21_numberOfLeadingZeros) (pc := 29) dJ21_numberOfLeadingZeros_29 16 rfl ?_
      refine r_iushr (M := m_J21_numberOfLeadingZeros) (pc := 31) dJ21_numberOfLeadingZeros_31 ?_
      refine r_istore_n (M := m_J21_numberOfLeadingZeros) (pc := 32) dJ21_numberOfLeadingZeros_32 0 rfl (Nat.le_of_ble_eq_true rfl) rfl ?_
      refine r_iload_n (M := m_J21_numberOfLeadingZeros) (pc := 33) dJ21_numberOfLeadingZeros_33 0 rfl rfl ?_
      refine r_sipush (M := m_J21_numberOfLeadingZeros) (pc := 34) dJ21_numberOfLeadingZeros_34 256 rfl ?_
      refine r_icmp_lt (M := m_J21_numberOfLeadingZeros) (pc := 37) dJ21_numberOfLeadingZeros_37 48 (by decide) (fun hc => ?_) (fun hc => ?_)
      · replace H := f_it H hc
        exact pw_weak (le_s (le_s le_0)) H
      · replace H := f_if H hc
        refine r_iinc (M := m_J21_numberOfLeadingZeros) (pc := 40) dJ21_numberOfLeadingZeros_40 (-8) rfl rfl (Nat.le_of_ble_eq_true rfl) rfl ?_
        refine r_iload_n (M := m_J21_numberOfLeadingZeros) (pc := 43) dJ21_numberOfLeadingZeros_43 0 rfl rfl ?_
        refine r_bipush (M := m_J21_numberOfLeadingZeros) (pc := 44) dJ21_numberOfLeadingZeros_44 8 rfl ?_
        refine r_iushr (M := m_J21_numberOfLeadingZeros) (pc := 46) dJ21_numberOfLeadingZeros_46 ?_
        refine r_istore_n (M := m_J21_numberOfLeadingZeros) (pc := 47) dJ21_numberOfLeadingZeros_47 0 rfl (Nat.le_of_ble_eq_true rfl) rfl ?_
        exact pw_weak (le_s (le_s le_0)) H
  · replace H := f_if H hc
    refine r_iload_n (M := m_J21_numberOfLeadingZeros) (pc := 4) dJ21_numberOfLeadingZeros_4 0 rfl rfl ?_
    refine r_if_ne (M := m_J21_numberOfLeadingZeros) (pc := 5) dJ21_numberOfLeadingZeros_5 13 (by decide) (fun hc => ?_) (fun hc => ?_)
    · replace H := f_if H hc
      refine r_iconst (M := m_J21_numberOfLeadingZeros) (pc := 13) dJ21_numberOfLeadingZeros_13 0 rfl ?_
      exact r_ireturn (M := m_J21_numberOfLeadingZeros) (pc := 14) dJ21_numberOfLeadingZeros_14 rfl H
    · replace H := f_it H hc
      refine r_bipush (M := m_J21_numberOfLeadingZeros) (pc := 8) dJ21_numberOfLeadingZeros_8 32 rfl ?_
      refine r_goto (M := m_J21_numberOfLeadingZeros) (pc := 10) dJ21_numberOfLeadingZeros_10 14 (by decide) ?_
      exact r_ireturn (M := m_J21_numberOfLeadingZeros) (pc := 14) dJ21_numberOfLeadingZeros_14 rfl H
theorem s_J21_numberOfLeadingZeros_48 {E : pw_E} {d : Nat} {w : pw_W} {Post : pw_R → pw_W → Prop} (v0 : Int32) (v1 : Int32) (H : (if v0 < 16 then (if v0 < 4 then Post (.inl (some (.int (v1 - ((v0.toUInt32 >>> ((1 : Int32).toUInt32 &&& Int32.toUInt32 31)).toInt32))))) w else Post (.inl (some (.int ((v1 + (-2)) - ((((v0.toUInt32 >>> ((2 : Int32).toUInt32 &&& Int32.toUInt32 31)).toInt32).toUInt32 >>> ((1 : Int32).toUInt32 &&& Int32.toUInt32 31)).toInt32))))) w) else (if ((v0.toUInt32 >>> ((4 : Int32).toUInt32 &&& Int32.toUInt32 31)).toInt32) < 4 then Post (.inl (some (.int ((v1 + (-4)) - ((((v0.toUInt32 >>> ((4 : Int32).toUInt32 &&& Int32.toUInt32 31)).toInt32).toUInt32 >>> ((1 : Int32).toUInt32 &&& Int32.toUInt32 31)).toInt32))))) w else Post (.inl (some (.int (((v1 + (-4)) + (-2)) - ((((((v0.toUInt32 >>> ((4 : Int32).toUInt32 &&& Int32.toUInt32 31)).toInt32).toUInt32 >>> ((2 : Int32).toUInt32 &&& Int32.toUInt32 31)).toInt32).toUInt32 >>> ((1 : Int32).toUInt32 &&& Int32.toUInt32 31)).toInt32))))) w))) : pw_Wp E m_J21_numberOfLeadingZeros (d + 1) 48 [some (.int v0), some (.int v1)] [] w Post := by
  refine r_iload_n (M := m_J21_numberOfLeadingZeros) (pc := 48) dJ21_numberOfLeadingZeros_48 0 rfl rfl ?_
  refine r_bipush (M := m_J21_numberOfLeadingZeros) (pc := 49) dJ21_numberOfLeadingZeros_49 16 rfl ?_
  refine r_icmp_lt (M := m_J21_numberOfLeadingZeros) (pc := 51) dJ21_numberOfLeadingZeros_51 61 (by decide) (fun hc => ?_) (fun hc => ?_)
  · replace H := f_it H hc
    refine r_iload_n (M := m_J21_numberOfLeadingZeros) (pc := 61) dJ21_numberOfLeadingZeros_61 0 rfl rfl ?_
    refine r_iconst (M := m_J21_numberOfLeadingZeros) (pc := 62) dJ21_numberOfLeadingZeros_62 4 rfl ?_
    refine r_icmp_lt (M := m_J21_numberOfLeadingZeros) (pc := 63) dJ21_numberOfLeadingZeros_63 73 (by decide) (fun hc => ?_) (fun hc => ?_)
    · replace H := f_it H hc
      refine r_iload_n (M := m_J21_numberOfLeadingZeros) (pc := 73) dJ21_numberOfLeadingZeros_73 1 rfl rfl ?_
      refine r_iload_n (M := m_J21_numberOfLeadingZeros) (pc := 74) dJ21_numberOfLeadingZeros_74 0 rfl rfl ?_
      refine r_iconst (M := m_J21_numberOfLeadingZeros) (pc := 75) dJ21_numberOfLeadingZeros_75 1 rfl ?_
      refine r_iushr (M := m_J21_numberOfLeadingZeros) (pc := 76) dJ21_numberOfLeadingZeros_76 ?_
      refine r_isub (M := m_J21_numberOfLeadingZeros) (pc := 77) dJ21_numberOfLeadingZeros_77 ?_
      exact r_ireturn (M := m_J21_numberOfLeadingZeros) (pc := 78) dJ21_numberOfLeadingZeros_78 rfl H
    · replace H := f_if H hc
      refine r_iinc (M := m_J21_numberOfLeadingZeros) (pc := 66) dJ21_numberOfLeadingZeros_66 (-2) rfl rfl (Nat.le_of_ble_eq_true rfl) rfl ?_
      refine r_iload_n (M := m_J21_numberOfLeadingZeros) (pc := 69) dJ21_numberOfLeadingZeros_69 0 rfl rfl ?_
      refine r_iconst (M := m_J21_numberOfLeadingZeros) (pc := 70) dJ21_numberOfLeadingZeros_70 2 rfl ?_
      refine r_iushr (M := m_J21_numberOfLeadingZeros) (pc := 71) dJ21_numberOfLeadingZeros_71 ?_
      refine r_istore_n (M := m_J21_numberOfLeadingZeros) (pc := 72) dJ21_numberOfLeadingZeros_72 0 rfl (Nat.le_of_ble_eq_true rfl) rfl ?_
      refine r_iload_n (M := m_J21_numberOfLeadingZeros) (pc := 73) dJ21_numberOfLeadingZeros_73 1 rfl rfl ?_
      refine r_iload_n (M := m_J21_numberOfLeadingZeros) (pc := 74) dJ21_numberOfLeadingZeros_74 0 rfl rfl ?_
      refine r_iconst (M := m_J21_numberOfLeadingZeros) (pc := 75) dJ21_numberOfLeadingZeros_75 1 rfl ?_
      refine r_iushr (M := m_J21_numberOfLeadingZeros) (pc := 76) dJ21_numberOfLeadingZeros_76 ?_
      refine r_isub (M := m_J21_numberOfLeadingZeros) (pc := 77) dJ21_numberOfLeadingZeros_77 ?_
      exact r_ireturn (M := m_J21_numberOfLeadingZeros) (pc := 78) dJ21_numberOfLeadingZeros_78 rfl H
  · replace H := f_if H hc
    refine r_iinc (M := m_J21_numberOfLeadingZeros) (pc := 54) dJ21_numberOfLeadingZeros_54 (-4) rfl rfl (Nat.le_of_ble_eq_true rfl) rfl ?_
    refine r_iload_n (M := m_J21_numberOfLeadingZeros) (pc := 57) dJ21_numberOfLeadingZeros_57 0 rfl rfl ?_
    refine r_iconst (M := m_J21_numberOfLeadingZeros) (pc := 58) dJ21_numberOfLeadingZeros_58 4 rfl ?_
    refine r_iushr (M := m_J21_numberOfLeadingZeros) (pc := 59) dJ21_numberOfLeadingZeros_59 ?_
    refine r_istore_n (M := m_J21_numberOfLeadingZeros) (pc := 60) dJ21_numberOfLeadingZeros_60 0 rfl (Nat.le_of_ble_eq_true rfl) rfl ?_
    refine r_iload_n (M := m_J21_numberOfLeadingZeros) (pc := 61) dJ21_numberOfLeadingZeros_61 0 rfl rfl ?_
    refine r_iconst (M := m_J21_numberOfLeadingZeros) (pc := 62) dJ21_numberOfLeadingZeros_62 4 rfl ?_
    refine r_icmp_lt (M := m_J21_numberOfLeadingZeros) (pc := 63) dJ21_numberOfLeadingZeros_63 73 (by decide) (fun hc => ?_) (fun hc => ?_)
    · replace H := f_it H hc
      refine r_iload_n (M := m_J21_numberOfLeadingZeros) (pc := 73) dJ21_numberOfLeadingZeros_73 1 rfl rfl ?_
      refine r_iload_n (M := m_J21_numberOfLeadingZeros) (pc := 74) dJ21_numberOfLeadingZeros_74 0 rfl rfl ?_
      refine r_iconst (M := m_J21_numberOfLeadingZeros) (pc := 75) dJ21_numberOfLeadingZeros_75 1 rfl ?_
      refine r_iushr (M := m_J21_numberOfLeadingZeros) (pc := 76) dJ21_numberOfLeadingZeros_76 ?_
      refine r_isub (M := m_J21_numberOfLeadingZeros) (pc := 77) dJ21_numberOfLeadingZeros_77 ?_
      exact r_ireturn (M := m_J21_numberOfLeadingZeros) (pc := 78) dJ21_numberOfLeadingZeros_78 rfl H
    · replace H := f_if H hc
      refine r_iinc (M := m_J21_numberOfLeadingZeros) (pc := 66) dJ21_numberOfLeadingZeros_66 (-2) rfl rfl (Nat.le_of_ble_eq_true rfl) rfl ?_
      refine r_iload_n (M := m_J21_numberOfLeadingZeros) (pc := 69) dJ21_numberOfLeadingZeros_69 0 rfl rfl ?_
      refine r_iconst (M := m_J21_numberOfLeadingZeros) (pc := 70) dJ21_numberOfLeadingZeros_70 2 rfl ?_
      refine r_iushr (M := m_J21_numberOfLeadingZeros) (pc := 71) dJ21_numberOfLeadingZeros_71 ?_
      refine r_istore_n (M := m_J21_numberOfLeadingZeros) (pc := 72) dJ21_numberOfLeadingZeros_72 0 rfl (Nat.le_of_ble_eq_true rfl) rfl ?_
      refine r_iload_n (M := m_J21_numberOfLeadingZeros) (pc := 73) dJ21_numberOfLeadingZeros_73 1 rfl rfl ?_
      refine r_iload_n (M := m_J21_numberOfLeadingZeros) (pc := 74) dJ21_numberOfLeadingZeros_74 0 rfl rfl ?_
      refine r_iconst (M := m_J21_numberOfLeadingZeros) (pc := 75) dJ21_numberOfLeadingZeros_75 1 rfl ?_
      refine r_iushr (M := m_J21_numberOfLeadingZeros) (pc := 76) dJ21_numberOfLeadingZeros_76 ?_
      refine r_isub (M := m_J21_numberOfLeadingZeros) (pc := 77) dJ21_numberOfLeadingZeros_77 ?_
      exact r_ireturn (M := m_J21_numberOfLeadingZeros) (pc := 78) dJ21_numberOfLeadingZeros_78 rfl H
theorem e_J21_numberOfLeadingZeros {E : pw_E} {d : Nat} {w : pw_W} {Post : pw_R → pw_W → Prop} (v0 : Int32) (H : pw_Wp E m_J21_numberOfLeadingZeros d 0 [some (.int v0), none] [] w Post) : pw_Cl E m_J21_numberOfLeadingZeros d [.int v0] w Post := pw_meth (by decide) rfl (pw_e1 rfl (pw_e0 (n := 1))) H
theorem s_J21_numberOfTrailingZeros_0 {E : pw_E} {d : Nat} {w : pw_W} {Post : pw_R → pw_W → Prop} (v0 : Int32) (H : (if 0 < ((v0 ^^^ (-1)) &&& (v0 - 1)) then (if ((v0 ^^^ (-1)) &&& (v0 - 1)) ≤ 65536 then (if ((v0 ^^^ (-1)) &&& (v0 - 1)) ≤ 256 then pw_Wp E m_J21_numberOfTrailingZeros (d + 1) 49 [some (.int ((v0 ^^^ (-1)) &&& (v0 - 1))), some (.int 1)] [] w Post else pw_Wp E m_J21_numberOfTrailingZeros (d + 1) 49 [some (.int ((((v0 ^^^ (-1)) &&& (v0 - 1)).toUInt32 >>> ((8 : Int32).toUInt32 &&& Int32.toUInt32 31)).toInt32)), some (.int (1 + 8))] [] w Post) else (if ((((v0 ^^^ (-1)) &&& (v0 - 1)).toUInt32 >>> ((16 : Int32).toUInt32 &&& Int32.toUInt32 31)).toInt32) ≤ 256 then pw_Wp E m_J21_numberOfTrailingZeros (d + 1) 49 [some (.int ((((v0 ^^^ (-1)) &&& (v0 - 1)).toUInt32 >>> ((16 : Int32).toUInt32 &&& Int32.toUInt32 31)).toInt32)), some (.int (1 + 16))] [] w Post else pw_Wp E m_J21_numberOfTrailingZeros (d + 1) 49 [some (.int ((((((v0 ^^^ (-1)) &&& (v0 - 1)).toUInt32 >>> ((16 : Int32).toUInt32 &&& Int32.toUInt32 31)).toInt32).toUInt32 >>> ((8 : Int32).toUInt32 &&& Int32.toUInt32 31)).toInt32)), some (.int ((1 + 16) + 8))] [] w Post)) else Post (.inl (some (.int (((v0 ^^^ (-1)) &&& (v0 - 1)) &&& 32)))) w)) : pw_Wp E m_J21_numberOfTrailingZeros (d + 1) 0 [some (.int v0), none] [] w Post := by
  refine r_iload_n (M := m_J21_numberOfTrailingZeros) (pc := 0) dJ21_numberOfTrailingZeros_0 0 rfl rfl ?_
  refine r_iconst (M := m_J21_numberOfTrailingZeros) (pc := 1) dJ21_numberOfTrailingZeros_1 (-1) rfl ?_
  refine r_ixor (M := m_J21_numberOfTrailingZeros) (pc := 2) dJ21_numberOfTrailingZeros_2 ?_
  refine r_iload_n (M := m_J21_numberOfTrailingZeros) (pc := 3) dJ21_numberOfTrailingZeros_3 0 rfl rfl ?_
  refine r_iconst (M := m_J21_numberOfTrailingZeros) (pc := 4) dJ21_numberOfTrailingZeros_4 1 rfl ?_
  refine r_isub (M := m_J21_numberOfTrailingZeros) (pc := 5) dJ21_numberOfTrailingZeros_5 ?_
  refine r_iand (M := m_J21_numberOfTrailingZeros) (pc := 6) dJ21_numberOfTrailingZeros_6 ?_
  refine r_istore_n (M := m_J21_numberOfTrailingZeros) (pc := 7) dJ21_numberOfTrailingZeros_7 0 rfl (Nat.le_of_ble_eq_true rfl) rfl ?_
  refine r_iload_n (M := m_J21_numberOfTrailingZeros) (pc := 8) dJ21_numberOfTrailingZeros_8 0 rfl rfl ?_
  refine r_if_gt (M := m_J21_numberOfTrailingZeros) (pc := 9) dJ21_numberOfTrailingZeros_9 17 (by decide) (fun hc => ?_) (fun hc => ?_)
  · replace H := f_it H hc
    refine r_iconst (M := m_J21_numberOfTrailingZeros) (pc := 17) dJ21_numberOfTrailingZeros_17 1 rfl ?_
    refine r_istore_n (M := m_J21_numberOfTrailingZeros) (pc := 18) dJ21_numberOfTrailingZeros_18 1 rfl (Nat.le_of_ble_eq_true rfl) rfl ?_
    refine r_iload_n (M := m_J21_numberOfTrailingZeros) (pc := 19) dJ21_numberOfTrailingZeros_19 0 rfl rfl ?_
    refine r_ldcw (M := m_J21_numberOfTrailingZeros) (pc := 20) dJ21_numberOfTrailingZeros_20 65536 q1549 ?_
    refine r_icmp_le (M := m_J21_numberOfTrailingZeros) (pc := 23) dJ21_numberOfTrailingZeros_23 34 (by decide) (fun hc => ?_) (fun hc => ?_)
    · replace H := f_it H hc
      refine r_iload_n (M := m_J21_numberOfTrailingZeros) (pc := 34) dJ21_numberOfTrailingZeros_34 0 rfl rfl ?_
      refine r_sipush (M := m_J21_numberOfTrailingZeros) (pc := 35) dJ21_numberOfTrailingZeros_35 256 rfl ?_
      refine r_icmp_le (M := m_J21_numberOfTrailingZeros) (pc := 38) dJ21_numberOfTrailingZeros_38 49 (by decide) (fun hc => ?_) (fun hc => ?_)
      · replace H := f_it H hc
        exact pw_weak (le_s (le_s le_0)) H
      · replace H := f_if H hc
        refine r_iinc (M := m_J21_numberOfTrailingZeros) (pc := 41) dJ21_numberOfTrailingZeros_41 8 rfl rfl (Nat.le_of_ble_eq_true rfl) rfl ?_
        refine r_iload_n (M := m_J21_numberOfTrailingZeros) (pc := 44) dJ21_numberOfTrailingZeros_44 0 rfl rfl ?_
        refine r_bipush (M := m_J21_numberOfTrailingZeros) (pc := 45) dJ21_numberOfTrailingZeros_45 8 rfl ?_
        refine r_iushr (M := m_J21_numberOfTrailingZeros) (pc := 47) dJ21_numberOfTrailingZeros_47 ?_
        refine r_istore_n (M := m_J21_numberOfTrailingZeros) (pc := 48) dJ21_numberOfTrailingZeros_48 0 rfl (Nat.le_of_ble_eq_true rfl) rfl ?_
        exact pw_weak (le_s (le_s le_0)) H
    · replace H := f_if H hc
      refine r_iinc (M := m_J21_numberOfTrailingZeros) (pc := 26) dJ21_numberOfTrailingZeros_26 16 rfl rfl (Nat.le_of_ble_eq_true rfl) rfl ?_
      refine r_iload_n (M := m_J21_numberOfTrailingZeros) (pc := 29) dJ21_numberOfTrailingZeros_29 0 rfl rfl ?_
      refine r_bipush (M := m_J21_numberOfTrailingZeros) (pc := 30) dJ21_numberOfTrailingZeros_30 16 rfl ?_
      refine r_iushr (M := m_J21_numberOfTrailingZeros) (pc := 32) dJ21_numberOfTrailingZeros_32 ?_
      refine r_istore_n (M := m_J21_numberOfTrailingZeros) (pc := 33) dJ21_numberOfTrailingZeros_33 0 rfl (Nat.le_of_ble_eq_true rfl) rfl ?_
      refine r_iload_n (M := m_J21_numberOfTrailingZeros) (pc := 34) dJ21_numberOfTrailingZeros_34 0 rfl rfl ?_
      refine r_sipush (M := m_J21_numberOfTrailingZeros) (pc := 35) dJ21_numberOfTrailingZeros_35 256 rfl ?_
      refine r_icmp_le (M := m_J21_numberOfTrailingZeros) (pc := 38) dJ21_numberOfTrailingZeros_38 49 (by decide) (fun hc => ?_) (fun hc => ?_)
      · replace H := f_it H hc
        exact pw_weak (le_s (le_s le_0)) H
      · replace H := f_if H hc
        refine r_iinc (M := m_J21_numberOfTrailingZeros) (pc := 41) dJ21_numberOfTrailingZeros_41 8 rfl rfl (Nat.le_of_ble_eq_true rfl) rfl ?_
        refine r_iload_n (M := m_J21_numberOfTrailingZeros) (pc := 44) dJ21_numberOfTrailingZeros_44 0 rfl rfl ?_
        refine r_bipush (M := m_J21_numberOfTrailingZeros) (pc := 45) dJ21_numberOfTrailingZeros_45 8 rfl ?_
        refine r_iushr (M := m_J21_numberOfTrailingZeros) (pc := 47) dJ21_numberOfTrailingZeros_47 ?_
        refine r_istore_n (M := m_J21_numberOfTrailingZeros) (pc := 48) dJ21_numberOfTrailingZeros_48 0 rfl (Nat.le_of_ble_eq_true rfl) rfl ?_
        exact pw_weak (le_s (le_s le_0)) H
  · replace H := f_if H hc
    refine r_iload_n (M := m_J21_numberOfTrailingZeros) (pc := 12) dJ21_numberOfTrailingZeros_12 0 rfl rfl ?_
    refine r_bipush (M := m_J21_numberOfTrailingZeros) (pc := 13) dJ21_numberOfTrailingZeros_13 32 rfl ?_
    refine r_iand (M := m_J21_numberOfTrailingZeros) (pc := 15) dJ21_numberOfTrailingZeros_15 ?_
    exact r_ireturn (M := m_J21_numberOfTrailingZeros) (pc := 16) dJ21_numberOfTrailingZeros_16 rfl H
theorem s_J21_numberOfTrailingZeros_49 {E : pw_E} {d : Nat} {w : pw_W} {Post : pw_R → pw_W → Prop} (v0 : Int32) (v1 : Int32) (H : (if v0 ≤ 16 then (if v0 ≤ 4 then Post (.inl (some (.int (v1 + ((v0.toUInt32 >>> ((1 : Int32).toUInt32 &&& Int32.toUInt32 31)).toInt32))))) w else Post (.inl (some (.int ((v1 + 2) + ((((v0.toUInt32 >>> ((2 : Int32).toUInt32 &&& Int32.toUInt32 31)).toInt32).toUInt32 >>> ((1 : Int32).toUInt32 &&& Int32.toUInt32 31)).toInt32))))) w) else (if ((v0.toUInt32 >>> ((4 : Int32).toUInt32 &&& Int32.toUInt32 31)).toInt32) ≤ 4 then Post (.inl (some (.int ((v1 + 4) + ((((v0.toUInt32 >>> ((4 : Int32).toUInt32 &&& Int32.toUInt32 31)).toInt32).toUInt32 >>> ((1 : Int32).toUInt32 &&& Int32.toUInt32 31)).toInt32))))) w else Post (.inl (some (.int (((v1 + 4) + 2) + ((((((v0.toUInt32 >>> ((4 : Int32).toUInt32 &&& Int32.toUInt32 31)).toInt32).toUInt32 >>> ((2 : Int32).toUInt32 &&& Int32.toUInt32 31)).toInt32).toUInt32 >>> ((1 : Int32).toUInt32 &&& Int32.toUInt32 31)).toInt32))))) w))) : pw_Wp E m_J21_numberOfTrailingZeros (d + 1) 49 [some (.int v0), some (.int v1)] [] w Post := by
  refine r_iload_n (M := m_J21_numberOfTrailingZeros) (pc := 49) dJ21_numberOfTrailingZeros_49 0 rfl rfl ?_
  refine r_bipush (M := m_J21_numberOfTrailingZeros) (pc := 50) dJ21_numberOfTrailingZeros_50 16 rfl ?_
  refine r_icmp_le (M := m_J21_numberOfTrailingZeros) (pc := 52) dJ21_numberOfTrailingZeros_52 62 (by decide) (fun hc => ?_) (fun hc => ?_)
  · replace H := f_it H hc
    refine r_iload_n (M := m_J21_numberOfTrailingZeros) (pc := 62) dJ21_numberOfTrailingZeros_62 0 rfl rfl ?_
    refine r_iconst (M := m_J21_numberOfTrailingZeros) (pc := 63) dJ21_numberOfTrailingZeros_63 4 rfl ?_
    refine r_icmp_le (M := m_J21_numberOfTrailingZeros) (pc := 64) dJ21_numberOfTrailingZeros_64 74 (by decide) (fun hc => ?_) (fun hc => ?_)
    · replace H := f_it H hc
      refine r_iload_n (M := m_J21_numberOfTrailingZeros) (pc := 74) dJ21_numberOfTrailingZeros_74 1 rfl rfl ?_
      refine r_iload_n (M := m_J21_numberOfTrailingZeros) (pc := 75) dJ21_numberOfTrailingZeros_75 0 rfl rfl ?_
      refine r_iconst (M := m_J21_numberOfTrailingZeros) (pc := 76) dJ21_numberOfTrailingZeros_76 1 rfl ?_
      refine r_iushr (M := m_J21_numberOfTrailingZeros) (pc := 77) dJ21_numberOfTrailingZeros_77 ?_
      refine r_iadd (M := m_J21_numberOfTrailingZeros) (pc := 78) dJ21_numberOfTrailingZeros_78 ?_
      exact r_ireturn (M := m_J21_numberOfTrailingZeros) (pc := 79) dJ21_numberOfTrailingZeros_79 rfl H
    · replace H := f_if H hc
      refine r_iinc (M := m_J21_numberOfTrailingZeros) (pc := 67) dJ21_numberOfTrailingZeros_67 2 rfl rfl (Nat.le_of_ble_eq_true rfl) rfl ?_
      refine r_iload_n (M := m_J21_numberOfTrailingZeros) (pc := 70) dJ21_numberOfTrailingZeros_70 0 rfl rfl ?_
      refine r_iconst (M := m_J21_numberOfTrailingZeros) (pc := 71) dJ21_numberOfTrailingZeros_71 2 rfl ?_
      refine r_iushr (M := m_J21_numberOfTrailingZeros) (pc := 72) dJ21_numberOfTrailingZeros_72 ?_
      refine r_istore_n (M := m_J21_numberOfTrailingZeros) (pc := 73) dJ21_numberOfTrailingZeros_73 0 rfl (Nat.le_of_ble_eq_true rfl) rfl ?_
      refine r_iload_n (M := m_J21_numberOfTrailingZeros) (pc := 74) dJ21_numberOfTrailingZeros_74 1 rfl rfl ?_
      refine r_iload_n (M := m_J21_numberOfTrailingZeros) (pc := 75) dJ21_numberOfTrailingZeros_75 0 rfl rfl ?_
      refine r_iconst (M := m_J21_numberOfTrailingZeros) (pc := 76) dJ21_numberOfTrailingZeros_76 1 rfl ?_
      refine r_iushr (M := m_J21_numberOfTrailingZeros) (pc := 77) dJ21_numberOfTrailingZeros_77 ?_
      refine r_iadd (M := m_J21_numberOfTrailingZeros) (pc := 78) dJ21_numberOfTrailingZeros_78 ?_
      exact r_ireturn (M := m_J21_numberOfTrailingZeros) (pc := 79) dJ21_numberOfTrailingZeros_79 rfl H
  · replace H := f_if H hc
    refine r_iinc (M := m_J21_numberOfTrailingZeros) (pc := 55) dJ21_numberOfTrailingZeros_55 4 rfl rfl (Nat.le_of_ble_eq_true rfl) rfl ?_
    refine r_iload_n (M := m_J21_numberOfTrailingZeros) (pc := 58) dJ21_numberOfTrailingZeros_58 0 rfl rfl ?_
    refine r_iconst (M := m_J21_numberOfTrailingZeros) (pc := 59) dJ21_numberOfTrailingZeros_59 4 rfl ?_
    refine r_iushr (M := m_J21_numberOfTrailingZeros) (pc := 60) dJ21_numberOfTrailingZeros_60 ?_
    refine r_istore_n (M := m_J21_numberOfTrailingZeros) (pc := 61) dJ21_numberOfTrailingZeros_61 0 rfl (Nat.le_of_ble_eq_true rfl) rfl ?_
    refine r_iload_n (M := m_J21_numberOfTrailingZeros) (pc := 62) dJ21_numberOfTrailingZeros_62 0 rfl rfl ?_
    refine r_iconst (M := m_J21_numberOfTrailingZeros) (pc := 63) dJ21_numberOfTrailingZeros_63 4 rfl ?_
    refine r_icmp_le (M := m_J21_numberOfTrailingZeros) (pc := 64) dJ21_numberOfTrailingZeros_64 74 (by decide) (fun hc => ?_) (fun hc => ?_)
    · replace H := f_it H hc
      refine r_iload_n (M := m_J21_numberOfTrailingZeros) (pc := 74) dJ21_numberOfTrailingZeros_74 1 rfl rfl ?_
      refine r_iload_n (M := m_J21_numberOfTrailingZeros) (pc := 75) dJ21_numberOfTrailingZeros_75 0 rfl rfl ?_
      refine r_iconst (M := m_J21_numberOfTrailingZeros) (pc := 76) dJ21_numberOfTrailingZeros_76 1 rfl ?_
      refine r_iushr (M := m_J21_numberOfTrailingZeros) (pc := 77) dJ21_numberOfTrailingZeros_77 ?_
      refine r_iadd (M := m_J21_numberOfTrailingZeros) (pc := 78) dJ21_numberOfTrailingZeros_78 ?_
      exact r_ireturn (M := m_J21_numberOfTrailingZeros) (pc := 79) dJ21_numberOfTrailingZeros_79 rfl H
    · replace H := f_if H hc
      refine r_iinc (M := m_J21_numberOfTrailingZeros) (pc := 67) dJ21_numberOfTrailingZeros_67 2 rfl rfl (Nat.le_of_ble_eq_true rfl) rfl ?_
      refine r_iload_n (M := m_J21_numberOfTrailingZeros) (pc := 70) dJ21_numberOfTrailingZeros_70 0 rfl rfl ?_
      refine r_iconst (M := m_J21_numberOfTrailingZeros) (pc := 71) dJ21_numberOfTrailingZeros_71 2 rfl ?_
      refine r_iushr (M := m_J21_numberOfTrailingZeros) (pc := 72) dJ21_numberOfTrailingZeros_72 ?_
      refine r_istore_n (M := m_J21_numberOfTrailingZeros) (pc := 73) dJ21_numberOfTrailingZeros_73 0 rfl (Nat.le_of_ble_eq_true rfl) rfl ?_
      refine r_iload_n (M := m_J21_numberOfTrailingZeros) (pc := 74) dJ21_numberOfTrailingZeros_74 1 rfl rfl ?_
      refine r_iload_n (M := m_J21_numberOfTrailingZeros) (pc := 75) dJ21_numberOfTrailingZeros_75 0 rfl rfl ?_
      refine r_iconst (M := m_J21_numberOfTrailingZeros) (pc := 76) dJ21_numberOfTrailingZeros_76 1 rfl ?_
      refine r_iushr (M := m_J21_numberOfTrailingZeros) (pc := 77) dJ21_numberOfTrailingZeros_77 ?_
      refine r_iadd (M := m_J21_numberOfTrailingZeros) (pc := 78) dJ21_numberOfTrailingZeros_78 ?_
      exact r_ireturn (M := m_J21_numberOfTrailingZeros) (pc := 79) dJ21_numberOfTrailingZeros_79 rfl H
theorem e_J21_numberOfTrailingZeros {E : pw_E} {d : Nat} {w : pw_W} {Post : pw_R → pw_W → Prop} (v0 : Int32) (H : pw_Wp E m_J21_numberOfTrailingZeros d 0 [some (.int v0), none] [] w Post) : pw_Cl E m_J21_numberOfTrailingZeros d [.int v0] w Post := pw_meth (by decide) rfl (pw_e1 rfl (pw_e0 (n := 1))) H
theorem s_J21_valueOf_0 {E : pw_E} {d : Nat} {w : pw_W} {Post : pw_R → pw_W → Prop} (v0 : Int32) (H : (if v0 < (-128) then (fun w1 => pw_Cl E m_J21_init d (va_rf (some w.2.1) :: [.int v0]) w1 (c_v (fun w2 => Post (.inl (some (va_rf (some w.2.1)))) w2))) (pw_new w (28, [.int 0]) 1) else f_sti E 6 (fun x3 => (if x3 < v0 then (fun w5 => pw_Cl E m_J21_init d (va_rf (some w.2.1) :: [.int v0]) w5 (c_v (fun w6 => Post (.inl (some (va_rf (some w.2.1)))) w6))) (pw_new w (28, [.int 0]) 1) else f_str E 7 (fun x7 => f_aldr w x7 (v0 + 128) (fun x9 => Post (.inl (some (va_rf x9))) w)))))) : pw_Wp E m_J21_valueOf (d + 1) 0 [some (.int v0)] [] w Post := by
  refine r_iload_n (M := m_J21_valueOf) (pc := 0) dJ21_valueOf_0 0 rfl rfl ?_
  refine r_bipush (M := m_J21_valueOf) (pc := 1) dJ21_valueOf_1 (-128) rfl ?_
  refine r_icmp_lt (M := m_J21_valueOf) (pc := 3) dJ21_valueOf_3 23 (by decide) (fun hc => ?_) (fun hc => ?_)
  · replace H := f_it H hc
    refine r_new (M := m_J21_valueOf) (pc := 23) dJ21_valueOf_23 28 _ rfl (Nat.le_of_ble_eq_true rfl) q996 q997 q166 [.int 0] rfl 1 rfl ?_
    refine r_dup (M := m_J21_valueOf) (pc := 26) dJ21_valueOf_26 (pw_cat_rf _) ?_
    refine r_iload_n (M := m_J21_valueOf) (pc := 27) dJ21_valueOf_27 0 rfl rfl ?_
    refine r_I (M := m_J21_valueOf) (pc := 28) dJ21_valueOf_28 m_J21_init k_J21_init rfl rfl q998 q999 (av := [.int _]) (dy := d) n_J21_init rfl (pw_c4 (Nat.le_of_ble_eq_true rfl)) (Nat.le_refl _) (H.mono (pw_nx_v (fun w2 H1 => ?_)))
    replace H := H1; clear H1
    exact r_areturn (M := m_J21_valueOf) (pc := 31) dJ21_valueOf_31 rfl (by simp) H
  · replace H := f_if H hc
    refine r_iload_n (M := m_J21_valueOf) (pc := 6) dJ21_valueOf_6 0 rfl rfl ?_
    obtain ⟨x3, h4, H⟩ := H
    refine r_getstatic (M := m_J21_valueOf) (pc := 7) dJ21_valueOf_7 6 _ rfl q992 h4 ?_
    refine r_icmp_gt (M := m_J21_valueOf) (pc := 10) dJ21_valueOf_10 23 (by decide) (fun hc => ?_) (fun hc => ?_)
    · replace H := f_it H hc
      refine r_new (M := m_J21_valueOf) (pc := 23) dJ21_valueOf_23 28 _ rfl (Nat.le_of_ble_eq_true rfl) q996 q997 q166 [.int 0] rfl 1 rfl ?_
      refine r_dup (M := m_J21_valueOf) (pc := 26) dJ21_valueOf_26 (pw_cat_rf _) ?_
      refine r_iload_n (M := m_J21_valueOf) (pc := 27) dJ21_valueOf_27 0 rfl rfl ?_
      refine r_I (M := m_J21_valueOf) (pc := 28) dJ21_valueOf_28 m_J21_init k_J21_init rfl rfl q998 q999 (av := [.int _]) (dy := d) n_J21_init rfl (pw_c4 (Nat.le_of_ble_eq_true rfl)) (Nat.le_refl _) (H.mono (pw_nx_v (fun w6 H1 => ?_)))
      replace H := H1; clear H1
      exact r_areturn (M := m_J21_valueOf) (pc := 31) dJ21_valueOf_31 rfl (by simp) H
    · replace H := f_if H hc
      obtain ⟨x7, h8, H⟩ := H
      refine r_getstatic (M := m_J21_valueOf) (pc := 13) dJ21_valueOf_13 7 _ rfl q994 h8 ?_
      refine r_iload_n (M := m_J21_valueOf) (pc := 16) dJ21_valueOf_16 0 rfl rfl ?_
      refine r_sipush (M := m_J21_valueOf) (pc := 17) dJ21_valueOf_17 128 rfl ?_
      refine r_iadd (M := m_J21_valueOf) (pc := 20) dJ21_valueOf_20 ?_
      obtain ⟨a10, t11, tyt11, vs12, x9, e9, h13, h13t, h13r, h130, h13v, H⟩ := H; cases e9
      refine r_aaload (M := m_J21_valueOf) (pc := 21) dJ21_valueOf_21 t11 tyt11 h13t h13r h13 h130 h13v ?_
      exact r_areturn (M := m_J21_valueOf) (pc := 22) dJ21_valueOf_22 rfl (by simp) H
theorem e_J21_valueOf {E : pw_E} {d : Nat} {w : pw_W} {Post : pw_R → pw_W → Prop} (v0 : Int32) (H : pw_Wp E m_J21_valueOf d 0 [some (.int v0)] [] w Post) : pw_Cl E m_J21_valueOf d [.int v0] w Post := pw_meth (by decide) rfl (pw_e1 rfl (pw_e0 (n := 0))) H
theorem s_J23_numberOfLeadingZeros_0 {E : pw_E} {d : Nat} {w : pw_W} {Post : pw_R → pw_W → Prop} (v0 : Int64) (H : False) : pw_Wp E m_J23_numberOfLeadingZeros (d + 1) 0 [some (.long v0), none, none] [] w Post := by
  refine r_lload_n (M := m_J23_numberOfLeadingZeros) (pc := 0) dJ23_numberOfLeadingZeros_0 0 rfl rfl ?_
  refine r_bipush (M := m_J23_numberOfLeadingZeros) (pc := 1) dJ23_numberOfLeadingZeros_1 32 rfl ?_
  exact H.elim
theorem e_J23_numberOfLeadingZeros {E : pw_E} {d : Nat} {w : pw_W} {Post : pw_R → pw_W → Prop} (v0 : Int64) (H : pw_Wp E m_J23_numberOfLeadingZeros d 0 [some (.long v0), none, none] [] w Post) : pw_Cl E m_J23_numberOfLeadingZeros d [.long v0] w Post := pw_meth (by decide) rfl (pw_e2 rfl (pw_e0 (n := 1))) H
theorem s_J23_numberOfTrailingZeros_0 {E : pw_E} {d : Nat} {w : pw_W} {Post : pw_R → pw_W → Prop} (v0 : Int64) (H : (if v0.toInt32 = 0 then False else pw_Cl E m_J21_numberOfTrailingZeros d [.int v0.toInt32] w (c_i (fun x2 w1 => Post (.inl (some (.int x2))) w1)))) : pw_Wp E m_J23_numberOfTrailingZeros (d + 1) 0 [some (.long v0), none, none] [] w Post := by
  refine r_lload_n (M := m_J23_numberOfTrailingZeros) (pc := 0) dJ23_numberOfTrailingZeros_0 0 rfl rfl ?_
  refine r_l2i (M := m_J23_numberOfTrailingZeros) (pc := 1) dJ23_numberOfTrailingZeros_1 ?_
  refine r_istore_n (M := m_J23_numberOfTrailingZeros) (pc := 2) dJ23_numberOfTrailingZeros_2 2 rfl (Nat.le_of_ble_eq_true rfl) rfl ?_
  refine r_iload_n (M := m_J23_numberOfTrailingZeros) (pc := 3) dJ23_numberOfTrailingZeros_3 2 rfl rfl ?_
  refine r_if_ne (M := m_J23_numberOfTrailingZeros) (pc := 4) dJ23_numberOfTrailingZeros_4 21 (by decide) (fun hc => ?_) (fun hc => ?_)
  · replace H := f_if H hc
    refine r_iload_n (M := m_J23_numberOfTrailingZeros) (pc := 21) dJ23_numberOfTrailingZeros_21 2 rfl rfl ?_
    refine r_S (M := m_J23_numberOfTrailingZeros) (pc := 22) dJ23_numberOfTrailingZeros_22 m_J21_numberOfTrailingZeros k_J21_numberOfTrailingZeros q1555 q1556 (av := [.int _]) (dy := d) n_J21_numberOfTrailingZeros rfl (pw_c4 (Nat.le_of_ble_eq_true rfl)) (Nat.le_refl _) (H.mono (pw_nx_i (fun x2 w1 H1 => ?_)))
    replace H := H1; clear H1
    exact r_ireturn (M := m_J23_numberOfTrailingZeros) (pc := 25) dJ23_numberOfTrailingZeros_25 rfl H
  · replace H := f_it H hc
    refine r_bipush (M := m_J23_numberOfTrailingZeros) (pc := 7) dJ23_numberOfTrailingZeros_7 32 rfl ?_
    refine r_lload_n (M := m_J23_numberOfTrailingZeros) (pc := 9) dJ23_numberOfTrailingZeros_9 0 rfl rfl ?_
    refine r_bipush (M := m_J23_numberOfTrailingZeros) (pc := 10) dJ23_numberOfTrailingZeros_10 32 rfl ?_
    exact H.elim
theorem e_J23_numberOfTrailingZeros {E : pw_E} {d : Nat} {w : pw_W} {Post : pw_R → pw_W → Prop} (v0 : Int64) (H : pw_Wp E m_J23_numberOfTrailingZeros d 0 [some (.long v0), none, none] [] w Post) : pw_Cl E m_J23_numberOfTrailingZeros d [.long v0] w Post := pw_meth (by decide) rfl (pw_e2 rfl (pw_e0 (n := 1))) H
theorem s_J24_init_0 {E : pw_E} {d : Nat} {w : pw_W} {Post : pw_R → pw_W → Prop} (a0 : Nat) (v1 : Option Nat) (v2 : Option Nat) (v3 : Option Nat) (H : f_put E w (some a0) 23 5 (.int 1) (fun w4 => f_put E w4 (some a0) 23 0 (va_rf v1) (fun w8 => f_put E w8 (some a0) 23 1 (va_rf v2) (fun w12 => f_put E w12 (some a0) 23 4 (va_rf v3) (fun w16 => Post (.inl none) w16))))) : pw_Wp E m_J24_init (d + 1) 0 [some (va_rf (some a0)), some (va_rf v1), some (va_rf v2), some (va_rf v3)] [] w Post := by
  refine r_aload_n (M := m_J24_init) (pc := 0) dJ24_init_0 0 rfl rfl ?_
  refine r_objInit (M := m_J24_init) (pc := 1) dJ24_init_1 q1666 q197 q198 (Nat.succ_pos _) (Nat.le_of_ble_eq_true rfl) ?_
  refine r_aload_n (M := m_J24_init) (pc := 4) dJ24_init_4 0 rfl rfl ?_
  refine r_iconst (M := m_J24_init) (pc := 5) dJ24_init_5 1 rfl ?_
  obtain ⟨a1, fs2, e9, h3, h3b, H⟩ := H; cases e9
  refine r_put (M := m_J24_init) (pc := 6) dJ24_init_6 "java/util/TreeMap$Entry" 23 5 _ rfl (Nat.le_of_ble_eq_true rfl) q1676 (Or.inl rfl) rfl h3 (Nat.le_of_ble_eq_true rfl) h3b rfl rfl ?_
  refine r_aload_n (M := m_J24_init) (pc := 9) dJ24_init_9 0 rfl rfl ?_
  refine r_aload_n (M := m_J24_init) (pc := 10) dJ24_init_10 1 rfl rfl ?_
  obtain ⟨a5, fs6, e9, h7, h7b, H⟩ := H; cases e9
  refine r_put (M := m_J24_init) (pc := 11) dJ24_init_11 "java/util/TreeMap$Entry" 23 0 _ rfl (Nat.le_of_ble_eq_true rfl) q1667 (Or.inl rfl) rfl h7 (Nat.le_of_ble_eq_true rfl) h7b (nar_ro _ _) (fit_ro _ _) ?_
  refine r_aload_n (M := m_J24_init) (pc := 14) dJ24_init_14 0 rfl rfl ?_
  refine r_aload_n (M := m_J24_init) (pc := 15) dJ24_init_15 2 rfl rfl ?_
  obtain ⟨a9, fs10, e9, h11, h11b, H⟩ := H; cases e9
  refine r_put (M := m_J24_init) (pc := 16) dJ24_init_16 "java/util/TreeMap$Entry" 23 1 _ rfl (Nat.le_of_ble_eq_true rfl) q1670 (Or.inl rfl) rfl h11 (Nat.le_of_ble_eq_true rfl) h11b (nar_ro _ _) (fit_ro _ _) ?_
  refine r_aload_n (M := m_J24_init) (pc := 19) dJ24_init_19 0 rfl rfl ?_
  refine r_aload_n (M := m_J24_init) (pc := 20) dJ24_init_20 3 rfl rfl ?_
  obtain ⟨a13, fs14, e9, h15, h15b, H⟩ := H; cases e9
  refine r_put (M := m_J24_init) (pc := 21) dJ24_init_21 "java/util/TreeMap$Entry" 23 4 _ rfl (Nat.le_of_ble_eq_true rfl) q1674 (Or.inl rfl) rfl h15 (Nat.le_of_ble_eq_true rfl) h15b (nar_ro _ _) (fit_ro _ _) ?_
  exact r_return (M := m_J24_init) (pc := 24) dJ24_init_24 rfl H
theorem e_J24_init {E : pw_E} {d : Nat} {w : pw_W} {Post : pw_R → pw_W → Prop} (a0 : Nat) (v1 : Option Nat) (v2 : Option Nat) (v3 : Option Nat) (H : pw_Wp E m_J24_init d 0 [some (va_rf (some a0)), some (va_rf v1), some (va_rf v2), some (va_rf v3)] [] w Post) : pw_Cl E m_J24_init d [va_rf (some a0), va_rf v1, va_rf v2, va_rf v3] w Post := pw_meth (by decide) rfl (pw_e1 (pw_cat_rf _) (pw_e1 (pw_cat_rf _) (pw_e1 (pw_cat_rf _) (pw_e1 (pw_cat_rf _) (pw_e0 (n := 0)))))) H
theorem s_J25_init_0 {E : pw_E} {d : Nat} {w : pw_W} {Post : pw_R → pw_W → Prop} (a0 : Nat) (H : pw_Cl E m_J0_init d (va_rf (some a0) :: []) w (c_v (fun w1 => Post (.inl none) w1))) : pw_Wp E m_J25_init (d + 1) 0 [some (va_rf (some a0))] [] w Post := by
  refine r_aload_n (M := m_J25_init) (pc := 0) dJ25_init_0 0 rfl rfl ?_
  refine r_I (M := m_J25_init) (pc := 1) dJ25_init_1 m_J0_init k_J0_init rfl rfl q1738 q214 (av := []) (dy := d) n_J0_init rfl (pw_c4 (Nat.le_of_ble_eq_true rfl)) (Nat.le_refl _) (H.mono (pw_nx_v (fun w1 H1 => ?_)))
  replace H := H1; clear H1
  exact r_return (M := m_J25_init) (pc := 4) dJ25_init_4 rfl H
theorem e_J25_init {E : pw_E} {d : Nat} {w : pw_W} {Post : pw_R → pw_W → Prop} (a0 : Nat) (H : pw_Wp E m_J25_init d 0 [some (va_rf (some a0))] [] w Post) : pw_Cl E m_J25_init d [va_rf (some a0)] w Post := pw_meth (by decide) rfl (pw_e1 (pw_cat_rf _) (pw_e0 (n := 0))) H
theorem s_J26_init_0 {E : pw_E} {d : Nat} {w : pw_W} {Post : pw_R → pw_W → Prop} (a0 : Nat) (v1 : Option Nat) (H : pw_Cl E m_J25_init d (va_rf (some a0) :: []) w (c_v (fun w1 => f_put E w1 (some a0) 24 0 (va_rf v1) (fun w5 => Post (.inl none) w5)))) : pw_Wp E m_J26_init (d + 1) 0 [some (va_rf (some a0)), some (va_rf v1)] [] w Post := by
  refine r_aload_n (M := m_J26_init) (pc := 0) dJ26_init_0 0 rfl rfl ?_
  refine r_I (M := m_J26_init) (pc := 1) dJ26_init_1 m_J25_init k_J25_init rfl rfl q1735 q1736 (av := []) (dy := d) n_J25_init rfl (pw_c4 (Nat.le_of_ble_eq_true rfl)) (Nat.le_refl _) (H.mono (pw_nx_v (fun w1 H1 => ?_)))
  replace H := H1; clear H1
  refine r_aload_n (M := m_J26_init) (pc := 4) dJ26_init_4 0 rfl rfl ?_
  refine r_aload_n (M := m_J26_init) (pc := 5) dJ26_init_5 1 rfl rfl ?_
  obtain ⟨a2, fs3, e9, h4, h4b, H⟩ := H; cases e9
  refine r_putF (M := m_J26_init) (pc := 6) dJ26_init_6 "java/util/TreeMap$KeySet" 24 0 _ rfl (Nat.le_of_ble_eq_true rfl) q1739 (Or.inl rfl) rfl rfl rfl h4 (Nat.le_of_ble_eq_true rfl) h4b (nar_ro _ _) (fit_ro _ _) ?_
  exact r_return (M := m_J26_init) (pc := 9) dJ26_init_9 rfl H
theorem e_J26_init {E : pw_E} {d : Nat} {w : pw_W} {Post : pw_R → pw_W → Prop} (a0 : Nat) (v1 : Option Nat) (H : pw_Wp E m_J26_init d 0 [some (va_rf (some a0)), some (va_rf v1)] [] w Post) : pw_Cl E m_J26_init d [va_rf (some a0), va_rf v1] w Post := pw_meth (by decide) rfl (pw_e1 (pw_cat_rf _) (pw_e1 (pw_cat_rf _) (pw_e0 (n := 0)))) H
theorem s_J26_iterator_0 {E : pw_E} {d : Nat} {w : pw_W} {Post : pw_R → pw_W → Prop} (v0 : Option Nat) (H : f_getr w v0 24 0 (fun x1 => ((x1 = none ∧ f_getr w v0 24 0 (fun x16 => f_cast w x16 "java/util/TreeMap$NavigableSubMap" (False))) ∨ (f_isk w x1 "java/util/TreeMap" ∧ f_getr w v0 24 0 (fun x7 => f_cast w x7 "java/util/TreeMap" (f_V E w x7 22 m_J18_keyIterator d [] (c_r (fun o12 w11 => Post (.inl (some (va_rf o12))) w11)))))))) : pw_Wp E m_J26_iterator (d + 1) 0 [some (va_rf v0)] [] w Post := by
  refine r_aload_n (M := m_J26_iterator) (pc := 0) dJ26_iterator_0 0 rfl rfl ?_
  obtain ⟨a2, fs3, x1, e9, h4, h4v, H⟩ := H; cases e9
  refine r_get (M := m_J26_iterator) (pc := 1) dJ26_iterator_1 "java/util/TreeMap$KeySet" 24 0 _ rfl (Nat.le_of_ble_eq_true rfl) q1739 (Or.inl rfl) h4 (Nat.le_of_ble_eq_true rfl) h4v ?_
  rcases H with ⟨e9, H⟩ | ⟨⟨b9, k9, us9, r9, e9, i1, i2, i3⟩, H⟩
  · cases e9
    refine r_instN (M := m_J26_iterator) (pc := 4) dJ26_iterator_4 ?_
    refine r_if_eq (M := m_J26_iterator) (pc := 7) dJ26_iterator_7 21 (by decide) (fun hc => ?_) (fun hc => (hc (by decide)).elim)
    refine r_aload_n (M := m_J26_iterator) (pc := 21) dJ26_iterator_21 0 rfl rfl ?_
    obtain ⟨a17, fs18, x16, e9, h19, h19v, H⟩ := H; cases e9
    refine r_get (M := m_J26_iterator) (pc := 22) dJ26_iterator_22 "java/util/TreeMap$KeySet" 24 0 _ rfl (Nat.le_of_ble_eq_true rfl) q1739 (Or.inl rfl) h19 (Nat.le_of_ble_eq_true rfl) h19v ?_
    obtain ⟨hk, H⟩ := H
    refine r_cast (M := m_J26_iterator) (pc := 25) dJ26_iterator_25 "java/util/TreeMap$NavigableSubMap" q1784 hk ?_
    exact H.elim
  · cases e9
    refine r_instY (M := m_J26_iterator) (pc := 4) dJ26_iterator_4 "java/util/TreeMap" q1753 i1 r9 i2 i3 ?_
    refine r_if_eq (M := m_J26_iterator) (pc := 7) dJ26_iterator_7 21 (by decide) (fun hc => absurd hc (by decide)) (fun hc => ?_)
    refine r_aload_n (M := m_J26_iterator) (pc := 10) dJ26_iterator_10 0 rfl rfl ?_
    obtain ⟨a8, fs9, x7, e9, h10, h10v, H⟩ := H; cases e9
    refine r_get (M := m_J26_iterator) (pc := 11) dJ26_iterator_11 "java/util/TreeMap$KeySet" 24 0 _ rfl (Nat.le_of_ble_eq_true rfl) q1739 (Or.inl rfl) h10 (Nat.le_of_ble_eq_true rfl) h10v ?_
    obtain ⟨hk, H⟩ := H
    refine r_cast (M := m_J26_iterator) (pc := 14) dJ26_iterator_14 "java/util/TreeMap" q1753 hk ?_
    obtain ⟨a13, us14, e9, h15, H⟩ := H; cases e9
    refine r_V (M := m_J26_iterator) (pc := 17) dJ26_iterator_17 m_J18_keyIterator k_J18_keyIterator q1754 q1755 22 _ rfl q1756 (av := []) (dy := d) n_J18_keyIterator h15 rfl (pw_c4 (Nat.le_of_ble_eq_true rfl)) (Nat.le_refl _) (H.mono (pw_nx_r (fun o12 w11 H1 => ?_)))
    replace H := H1; clear H1
    exact r_areturn (M := m_J26_iterator) (pc := 20) dJ26_iterator_20 rfl (by simp) H
theorem e_J26_iterator {E : pw_E} {d : Nat} {w : pw_W} {Post : pw_R → pw_W → Prop} (v0 : Option Nat) (H : pw_Wp E m_J26_iterator d 0 [some (va_rf v0)] [] w Post) : pw_Cl E m_J26_iterator d [va_rf v0] w Post := pw_meth (by decide) rfl (pw_e1 (pw_cat_rf _) (pw_e0 (n := 0))) H
theorem s_J26_size_0 {E : pw_E} {d : Nat} {w : pw_W} {Post : pw_R → pw_W → Prop} (v0 : Option Nat) (H : f_getr w v0 24 0 (fun x1 => False)) : pw_Wp E m_J26_size (d + 1) 0 [some (va_rf v0)] [] w Post := by
  refine r_aload_n (M := m_J26_size) (pc := 0) dJ26_size_0 0 rfl rfl ?_
  obtain ⟨a2, fs3, x1, e9, h4, h4v, H⟩ := H; cases e9
  refine r_get (M := m_J26_size) (pc := 1) dJ26_size_1 "java/util/TreeMap$KeySet" 24 0 _ rfl (Nat.le_of_ble_eq_true rfl) q1739 (Or.inl rfl) h4 (Nat.le_of_ble_eq_true rfl) h4v ?_
  exact H.elim
theorem e_J26_size {E : pw_E} {d : Nat} {w : pw_W} {Post : pw_R → pw_W → Prop} (v0 : Option Nat) (H : pw_Wp E m_J26_size d 0 [some (va_rf v0)] [] w Post) : pw_Cl E m_J26_size d [va_rf v0] w Post := pw_meth (by decide) rfl (pw_e1 (pw_cat_rf _) (pw_e0 (n := 0))) H
theorem s_J27_hasNext_0 {E : pw_E} {d : Nat} {w : pw_W} {Post : pw_R → pw_W → Prop} (v0 : Option Nat) (H : f_getr w v0 25 0 (fun x1 => (if x1 = none then Post (.inl (some (.int 0))) w else Post (.inl (some (.int 1))) w))) : pw_Wp E m_J27_hasNext (d + 1) 0 [some (va_rf v0)] [] w Post := by
  refine r_aload_n (M := m_J27_hasNext) (pc := 0) dJ27_hasNext_0 0 rfl rfl ?_
  obtain ⟨a2, fs3, x1, e9, h4, h4v, H⟩ := H; cases e9
  refine r_get (M := m_J27_hasNext) (pc := 1) dJ27_hasNext_1 "java/util/TreeMap$PrivateEntryIterator" 25 0 _ rfl (Nat.le_of_ble_eq_true rfl) q1771 (Or.inl rfl) h4 (Nat.le_of_ble_eq_true rfl) h4v ?_
  refine r_ifnull (M := m_J27_hasNext) (pc := 4) dJ27_hasNext_4 11 (by decide) (fun hc => ?_) (fun hc => ?_)
  · replace H := f_it H hc
    refine r_iconst (M := m_J27_hasNext) (pc := 11) dJ27_hasNext_11 0 rfl ?_
    exact r_zreturn (M := m_J27_hasNext) (pc := 12) dJ27_hasNext_12 rfl rfl H
  · replace H := f_if H hc
    refine r_iconst (M := m_J27_hasNext) (pc := 7) dJ27_hasNext_7 1 rfl ?_
    refine r_goto (M := m_J27_hasNext) (pc := 8) dJ27_hasNext_8 12 (by decide) ?_
    exact r_zreturn (M := m_J27_hasNext) (pc := 12) dJ27_hasNext_12 rfl rfl H
theorem e_J27_hasNext {E : pw_E} {d : Nat} {w : pw_W} {Post : pw_R → pw_W → Prop} (v0 : Option Nat) (H : pw_Wp E m_J27_hasNext d 0 [some (va_rf v0)] [] w Post) : pw_Cl E m_J27_hasNext d [va_rf v0] w Post := pw_meth (by decide) rfl (pw_e1 (pw_cat_rf _) (pw_e0 (n := 0))) H
theorem s_J27_init_0 {E : pw_E} {d : Nat} {w : pw_W} {Post : pw_R → pw_W → Prop} (a0 : Nat) (v1 : Option Nat) (v2 : Option Nat) (H : f_put E w (some a0) 25 3 (va_rf v1) (fun w4 => f_geti w4 v1 22 5 (fun x5 => f_put E w4 (some a0) 25 2 (.int x5) (fun w12 => f_put E w12 (some a0) 25 1 (va_rf none) (fun w16 => f_put E w16 (some a0) 25 0 (va_rf v2) (fun w20 => Post (.inl none) w20)))))) : pw_Wp E m_J27_init (d + 1) 0 [some (va_rf (some a0)), some (va_rf v1), some (va_rf v2)] [] w Post := by
  refine r_aload_n (M := m_J27_init) (pc := 0) dJ27_init_0 0 rfl rfl ?_
  refine r_aload_n (M := m_J27_init) (pc := 1) dJ27_init_1 1 rfl rfl ?_
  obtain ⟨a1, fs2, e9, h3, h3b, H⟩ := H; cases e9
  refine r_putF (M := m_J27_init) (pc := 2) dJ27_init_2 "java/util/TreeMap$PrivateEntryIterator" 25 3 _ rfl (Nat.le_of_ble_eq_true rfl) q1774 (Or.inl rfl) rfl rfl rfl h3 (Nat.le_of_ble_eq_true rfl) h3b (nar_ro _ _) (fit_ro _ _) ?_
  refine r_aload_n (M := m_J27_init) (pc := 5) dJ27_init_5 0 rfl rfl ?_
  refine r_objInit (M := m_J27_init) (pc := 6) dJ27_init_6 q1770 q197 q198 (Nat.succ_pos _) (Nat.le_of_ble_eq_true rfl) ?_
  refine r_aload_n (M := m_J27_init) (pc := 9) dJ27_init_9 0 rfl rfl ?_
  refine r_aload_n (M := m_J27_init) (pc := 10) dJ27_init_10 1 rfl rfl ?_
  obtain ⟨a6, fs7, x5, e9, h8, h8v, H⟩ := H; cases e9
  refine r_getN (M := m_J27_init) (pc := 11) dJ27_init_11 "java/util/TreeMap" 22 5 _ rfl (Nat.le_of_ble_eq_true rfl) q1353 h8 (Nat.le_of_ble_eq_true rfl) h8v ?_
  obtain ⟨a9, fs10, e9, h11, h11b, H⟩ := H; cases e9
  refine r_put (M := m_J27_init) (pc := 14) dJ27_init_14 "java/util/TreeMap$PrivateEntryIterator" 25 2 _ rfl (Nat.le_of_ble_eq_true rfl) q1773 (Or.inl rfl) rfl h11 (Nat.le_of_ble_eq_true rfl) h11b rfl rfl ?_
  refine r_aload_n (M := m_J27_init) (pc := 17) dJ27_init_17 0 rfl rfl ?_
  refine r_null (M := m_J27_init) (pc := 18) dJ27_init_18 ?_
  obtain ⟨a13, fs14, e9, h15, h15b, H⟩ := H; cases e9
  refine r_put (M := m_J27_init) (pc := 19) dJ27_init_19 "java/util/TreeMap$PrivateEntryIterator" 25 1 _ rfl (Nat.le_of_ble_eq_true rfl) q1772 (Or.inl rfl) rfl h15 (Nat.le_of_ble_eq_true rfl) h15b (nar_ro _ _) (fit_ro _ _) ?_
  refine r_aload_n (M := m_J27_init) (pc := 22) dJ27_init_22 0 rfl rfl ?_
  refine r_aload_n (M := m_J27_init) (pc := 23) dJ27_init_23 2 rfl rfl ?_
  obtain ⟨a17, fs18, e9, h19, h19b, H⟩ := H; cases e9
  refine r_put (M := m_J27_init) (pc := 24) dJ27_init_24 "java/util/TreeMap$PrivateEntryIterator" 25 0 _ rfl (Nat.le_of_ble_eq_true rfl) q1771 (Or.inl rfl) rfl h19 (Nat.le_of_ble_eq_true rfl) h19b (nar_ro _ _) (fit_ro _ _) ?_
  exact r_return (M := m_J27_init) (pc := 27) dJ27_init_27 rfl H
theorem e_J27_init {E : pw_E} {d : Nat} {w : pw_W} {Post : pw_R → pw_W → Prop} (a0 : Nat) (v1 : Option Nat) (v2 : Option Nat) (H : pw_Wp E m_J27_init d 0 [some (va_rf (some a0)), some (va_rf v1), some (va_rf v2)] [] w Post) : pw_Cl E m_J27_init d [va_rf (some a0), va_rf v1, va_rf v2] w Post := pw_meth (by decide) rfl (pw_e1 (pw_cat_rf _) (pw_e1 (pw_cat_rf _) (pw_e1 (pw_cat_rf _) (pw_e0 (n := 0))))) H
theorem s_J27_nextEntry_0 {E : pw_E} {d : Nat} {w : pw_W} {Post : pw_R → pw_W → Prop} (v0 : Option Nat) (H : f_getr w v0 25 0 (fun x1 => (if x1 = none then False else f_getr w v0 25 3 (fun x5 => f_geti w x5 22 5 (fun x9 => f_geti w v0 25 2 (fun x13 => (if x9 = x13 then pw_Cl E m_J18_successor d [va_rf x1] w (c_r (fun o18 w17 => f_put E w17 v0 25 0 (va_rf o18) (fun w22 => f_put E w22 v0 25 1 (va_rf x1) (fun w26 => Post (.inl (some (va_rf x1))) w26)))) else False))))))) : pw_Wp E m_J27_nextEntry (d + 1) 0 [some (va_rf v0), none] [] w Post := by
  refine r_aload_n (M := m_J27_nextEntry) (pc := 0) dJ27_nextEntry_0 0 rfl rfl ?_
  obtain ⟨a2, fs3, x1, e9, h4, h4v, H⟩ := H; cases e9
  refine r_get (M := m_J27_nextEntry) (pc := 1) dJ27_nextEntry_1 "java/util/TreeMap$PrivateEntryIterator" 25 0 _ rfl (Nat.le_of_ble_eq_true rfl) q1771 (Or.inl rfl) h4 (Nat.le_of_ble_eq_true rfl) h4v ?_
  refine r_astore_n (M := m_J27_nextEntry) (pc := 4) dJ27_nextEntry_4 1 rfl (Nat.le_of_ble_eq_true rfl) (pw_pre_rf rfl) ?_
  refine r_aload_n (M := m_J27_nextEntry) (pc := 5) dJ27_nextEntry_5 1 rfl rfl ?_
  refine r_ifnonnull (M := m_J27_nextEntry) (pc := 6) dJ27_nextEntry_6 17 (by decide) (fun hc => ?_) (fun hc => ?_)
  · replace H := f_if H hc
    refine r_aload_n (M := m_J27_nextEntry) (pc := 17) dJ27_nextEntry_17 0 rfl rfl ?_
    obtain ⟨a6, fs7, x5, e9, h8, h8v, H⟩ := H; cases e9
    refine r_get (M := m_J27_nextEntry) (pc := 18) dJ27_nextEntry_18 "java/util/TreeMap$PrivateEntryIterator" 25 3 _ rfl (Nat.le_of_ble_eq_true rfl) q1774 (Or.inl rfl) h8 (Nat.le_of_ble_eq_true rfl) h8v ?_
    obtain ⟨a10, fs11, x9, e9, h12, h12v, H⟩ := H; cases e9
    refine r_getN (M := m_J27_nextEntry) (pc := 21) dJ27_nextEntry_21 "java/util/TreeMap" 22 5 _ rfl (Nat.le_of_ble_eq_true rfl) q1353 h12 (Nat.le_of_ble_eq_true rfl) h12v ?_
    refine r_aload_n (M := m_J27_nextEntry) (pc := 24) dJ27_nextEntry_24 0 rfl rfl ?_
    obtain ⟨a14, fs15, x13, e9, h16, h16v, H⟩ := H; cases e9
    refine r_get (M := m_J27_nextEntry) (pc := 25) dJ27_nextEntry_25 "java/util/TreeMap$PrivateEntryIterator" 25 2 _ rfl (Nat.le_of_ble_eq_true rfl) q1773 (Or.inl rfl) h16 (Nat.le_of_ble_eq_true rfl) h16v ?_
    refine r_icmp_eq (M := m_J27_nextEntry) (pc := 28) dJ27_nextEntry_28 39 (by decide) (fun hc => ?_) (fun hc => ?_)
    · replace H := f_it H hc
      refine r_aload_n (M := m_J27_nextEntry) (pc := 39) dJ27_nextEntry_39 0 rfl rfl ?_
      refine r_aload_n (M := m_J27_nextEntry) (pc := 40) dJ27_nextEntry_40 1 rfl rfl ?_
      refine r_S (M := m_J27_nextEntry) (pc := 41) dJ27_nextEntry_41 m_J18_successor k_J18_successor q925 q926 (av := [va_rf _]) (dy := d) n_J18_successor rfl (pw_c4 (Nat.le_of_ble_eq_true rfl)) (Nat.le_refl _) (H.mono (pw_nx_r (fun o18 w17 H1 => ?_)))
      replace H := H1; clear H1
      obtain ⟨a19, fs20, e9, h21, h21b, H⟩ := H; cases e9
      refine r_put (M := m_J27_nextEntry) (pc := 44) dJ27_nextEntry_44 "java/util/TreeMap$PrivateEntryIterator" 25 0 _ rfl (Nat.le_of_ble_eq_true rfl) q1771 (Or.inl rfl) rfl h21 (Nat.le_of_ble_eq_true rfl) h21b (nar_ro _ _) (fit_ro _ _) ?_
      refine r_aload_n (M := m_J27_nextEntry) (pc := 47) dJ27_nextEntry_47 0 rfl rfl ?_
      refine r_aload_n (M := m_J27_nextEntry) (pc := 48) dJ27_nextEntry_48 1 rfl rfl ?_
      obtain ⟨a23, fs24, e9, h25, h25b, H⟩ := H; cases e9
      refine r_put (M := m_J27_nextEntry) (pc := 49) dJ27_nextEntry_49 "java/util/TreeMap$PrivateEntryIterator" 25 1 _ rfl (Nat.le_of_ble_eq_true rfl) q1772 (Or.inl rfl) rfl h25 (Nat.le_of_ble_eq_true rfl) h25b (nar_ro _ _) (fit_ro _ _) ?_
      refine r_aload_n (M := m_J27_nextEntry) (pc := 52) dJ27_nextEntry_52 1 rfl rfl ?_
      exact r_areturn (M := m_J27_nextEntry) (pc := 53) dJ27_nextEntry_53 rfl (by simp) H
    · replace H := f_if H hc
      exact H.elim
  · replace H := f_it H hc
    exact H.elim
theorem e_J27_nextEntry {E : pw_E} {d : Nat} {w : pw_W} {Post : pw_R → pw_W → Prop} (v0 : Option Nat) (H : pw_Wp E m_J27_nextEntry d 0 [some (va_rf v0), none] [] w Post) : pw_Cl E m_J27_nextEntry d [va_rf v0] w Post := pw_meth (by decide) rfl (pw_e1 (pw_cat_rf _) (pw_e0 (n := 1))) H
theorem s_J28_init_0 {E : pw_E} {d : Nat} {w : pw_W} {Post : pw_R → pw_W → Prop} (a0 : Nat) (v1 : Option Nat) (v2 : Option Nat) (H : pw_Cl E m_J27_init d (va_rf (some a0) :: [va_rf v1, va_rf v2]) w (c_v (fun w1 => Post (.inl none) w1))) : pw_Wp E m_J28_init (d + 1) 0 [some (va_rf (some a0)), some (va_rf v1), some (va_rf v2)] [] w Post := by
  refine r_aload_n (M := m_J28_init) (pc := 0) dJ28_init_0 0 rfl rfl ?_
  refine r_aload_n (M := m_J28_init) (pc := 1) dJ28_init_1 1 rfl rfl ?_
  refine r_aload_n (M := m_J28_init) (pc := 2) dJ28_init_2 2 rfl rfl ?_
  refine r_I (M := m_J28_init) (pc := 3) dJ28_init_3 m_J27_init k_J27_init rfl rfl q1767 q1768 (av := [va_rf _, va_rf _]) (dy := d) n_J27_init rfl (pw_c4 (Nat.le_of_ble_eq_true rfl)) (Nat.le_refl _) (H.mono (pw_nx_v (fun w1 H1 => ?_)))
  replace H := H1; clear H1
  exact r_return (M := m_J28_init) (pc := 6) dJ28_init_6 rfl H
theorem e_J28_init {E : pw_E} {d : Nat} {w : pw_W} {Post : pw_R → pw_W → Prop} (a0 : Nat) (v1 : Option Nat) (v2 : Option Nat) (H : pw_Wp E m_J28_init d 0 [some (va_rf (some a0)), some (va_rf v1), some (va_rf v2)] [] w Post) : pw_Cl E m_J28_init d [va_rf (some a0), va_rf v1, va_rf v2] w Post := pw_meth (by decide) rfl (pw_e1 (pw_cat_rf _) (pw_e1 (pw_cat_rf _) (pw_e1 (pw_cat_rf _) (pw_e0 (n := 0))))) H
theorem s_J28_next_0 {E : pw_E} {d : Nat} {w : pw_W} {Post : pw_R → pw_W → Prop} (v0 : Option Nat) (H : f_V E w v0 25 m_J27_nextEntry d [] (c_r (fun o2 w1 => f_getr w1 o2 23 0 (fun x6 => Post (.inl (some (va_rf x6))) w1)))) : pw_Wp E m_J28_next (d + 1) 0 [some (va_rf v0)] [] w Post := by
  refine r_aload_n (M := m_J28_next) (pc := 0) dJ28_next_0 0 rfl rfl ?_
  obtain ⟨a3, us4, e9, h5, H⟩ := H; cases e9
  refine r_U (M := m_J28_next) (pc := 1) dJ28_next_1 ⟨"java/util/TreeMap$KeyIterator", "nextEntry", "()Ljava/util/TreeMap$Entry;"⟩ "java/util/TreeMap$PrivateEntryIterator" m_J27_nextEntry k_J27_nextEntry q919 q920 q923 25 _ rfl q922 (Or.inl q921) ⟨by decide +kernel, by decide +kernel⟩ (av := []) (dy := d) (pw_nyl (n := 0) (by decide +kernel)) h5 rfl (pw_c4 (Nat.le_of_ble_eq_true rfl)) (Nat.le_refl _) (H.mono (pw_nx_r (fun o2 w1 H1 => ?_)))
  replace H := H1; clear H1
  obtain ⟨a7, fs8, x6, e9, h9, h9v, H⟩ := H; cases e9
  refine r_get (M := m_J28_next) (pc := 4) dJ28_next_4 "java/util/TreeMap$Entry" 23 0 _ rfl (Nat.le_of_ble_eq_true rfl) q1668 (Or.inl rfl) h9 (Nat.le_of_ble_eq_true rfl) h9v ?_
  exact r_areturn (M := m_J28_next) (pc := 7) dJ28_next_7 rfl (by simp) H
theorem e_J28_next {E : pw_E} {d : Nat} {w : pw_W} {Post : pw_R → pw_W → Prop} (v0 : Option Nat) (H : pw_Wp E m_J28_next d 0 [some (va_rf v0)] [] w Post) : pw_Cl E m_J28_next d [va_rf v0] w Post := pw_meth (by decide) rfl (pw_e1 (pw_cat_rf _) (pw_e0 (n := 0))) H
theorem s_J29_add_0 {E : pw_E} {d : Nat} {w : pw_W} {Post : pw_R → pw_W → Prop} (v0 : Option Nat) (v1 : Option Nat) (H : f_getr w v0 26 0 (fun x1 => f_str E 8 (fun x5 => f_V E w x1 22 m_J18_put d [va_rf v1, va_rf x5] (c_r (fun o8 w7 => (if o8 = none then Post (.inl (some (.int 1))) w7 else Post (.inl (some (.int 0))) w7)))))) : pw_Wp E m_J29_add (d + 1) 0 [some (va_rf v0), some (va_rf v1)] [] w Post := by
  refine r_aload_n (M := m_J29_add) (pc := 0) dJ29_add_0 0 rfl rfl ?_
  obtain ⟨a2, fs3, x1, e9, h4, h4v, H⟩ := H; cases e9
  refine r_get (M := m_J29_add) (pc := 1) dJ29_add_1 "java/util/TreeSet" 26 0 _ rfl (Nat.le_of_ble_eq_true rfl) q2137 (Or.inl rfl) h4 (Nat.le_of_ble_eq_true rfl) h4v ?_
  refine r_aload_n (M := m_J29_add) (pc := 4) dJ29_add_4 1 rfl rfl ?_
  obtain ⟨x5, h6, H⟩ := H
  refine r_getstatic (M := m_J29_add) (pc := 5) dJ29_add_5 8 _ rfl q2156 h6 ?_
  obtain ⟨a9, us9, e9, h10, H⟩ := H; cases e9
  refine r_NF (M := m_J29_add) (pc := 8) dJ29_add_8 0 rfl ⟨rfl, rfl⟩ m_J18_put k_J18_put q1646 22 _ rfl q2161 q2160 q2159 q2163 q2162 q1798 (by decide) (av := [va_rf _, va_rf _]) (dy := d) (pw_nyl (n := 2) (by decide +kernel)) h10 rfl (pw_c4 (Nat.le_of_ble_eq_true rfl)) (Nat.le_refl _) (H.mono (pw_nx_r (fun o8 w7 H1 => ?_)))
  replace H := H1; clear H1
  refine r_ifnonnull (M := m_J29_add) (pc := 13) dJ29_add_13 20 (by decide) (fun hc => ?_) (fun hc => ?_)
  · replace H := f_if H hc
    refine r_iconst (M := m_J29_add) (pc := 20) dJ29_add_20 0 rfl ?_
    exact r_zreturn (M := m_J29_add) (pc := 21) dJ29_add_21 rfl rfl H
  · replace H := f_it H hc
    refine r_iconst (M := m_J29_add) (pc := 16) dJ29_add_16 1 rfl ?_
    refine r_goto (M := m_J29_add) (pc := 17) dJ29_add_17 21 (by decide) ?_
    exact r_zreturn (M := m_J29_add) (pc := 21) dJ29_add_21 rfl rfl H
theorem e_J29_add {E : pw_E} {d : Nat} {w : pw_W} {Post : pw_R → pw_W → Prop} (v0 : Option Nat) (v1 : Option Nat) (H : pw_Wp E m_J29_add d 0 [some (va_rf v0), some (va_rf v1)] [] w Post) : pw_Cl E m_J29_add d [va_rf v0, va_rf v1] w Post := pw_meth (by decide) rfl (pw_e1 (pw_cat_rf _) (pw_e1 (pw_cat_rf _) (pw_e0 (n := 0)))) H
theorem s_J29_init_0 {E : pw_E} {d : Nat} {w : pw_W} {Post : pw_R → pw_W → Prop} (a0 : Nat) (H : (fun w1 => pw_Cl E m_J18_init d (va_rf (some w.2.1) :: []) w1 (c_v (fun w2 => pw_Cl E m_J29_init_2 d (va_rf (some a0) :: [va_rf (some w.2.1)]) w2 (c_v (fun w3 => Post (.inl none) w3))))) (pw_new w (22, [va_rf none, va_rf none, va_rf none, va_rf none, .int 0, .int 0, va_rf none, va_rf none, va_rf none]) 9)) : pw_Wp E m_J29_init (d + 1) 0 [some (va_rf (some a0))] [] w Post := by
  refine r_aload_n (M := m_J29_init) (pc := 0) dJ29_init_0 0 rfl rfl ?_
  refine r_new (M := m_J29_init) (pc := 1) dJ29_init_1 22 _ rfl (Nat.le_of_ble_eq_true rfl) q2131 q1341 q162 [va_rf none, va_rf none, va_rf none, va_rf none, .int 0, .int 0, va_rf none, va_rf none, va_rf none] rfl 9 rfl ?_
  refine r_dup (M := m_J29_init) (pc := 4) dJ29_init_4 (pw_cat_rf _) ?_
  refine r_I (M := m_J29_init) (pc := 5) dJ29_init_5 m_J18_init k_J18_init rfl rfl q2132 q1343 (av := []) (dy := d) n_J18_init rfl (pw_c4 (Nat.le_of_ble_eq_true rfl)) (Nat.le_refl _) (H.mono (pw_nx_v (fun w2 H1 => ?_)))
  replace H := H1; clear H1
  refine r_I (M := m_J29_init) (pc := 8) dJ29_init_8 m_J29_init_2 k_J29_init_2 rfl rfl q2133 q2134 (av := [va_rf _]) (dy := d) n_J29_init_2 rfl (pw_c4 (Nat.le_of_ble_eq_true rfl)) (Nat.le_refl _) (H.mono (pw_nx_v (fun w3 H1 => ?_)))
  replace H := H1; clear H1
  exact r_return (M := m_J29_init) (pc := 11) dJ29_init_11 rfl H
theorem e_J29_init {E : pw_E} {d : Nat} {w : pw_W} {Post : pw_R → pw_W → Prop} (a0 : Nat) (H : pw_Wp E m_J29_init d 0 [some (va_rf (some a0))] [] w Post) : pw_Cl E m_J29_init d [va_rf (some a0)] w Post := pw_meth (by decide) rfl (pw_e1 (pw_cat_rf _) (pw_e0 (n := 0))) H
theorem s_J29_init_2_0 {E : pw_E} {d : Nat} {w : pw_W} {Post : pw_R → pw_W → Prop} (a0 : Nat) (v1 : Option Nat) (H : pw_Cl E m_J25_init d (va_rf (some a0) :: []) w (c_v (fun w1 => f_put E w1 (some a0) 26 0 (va_rf v1) (fun w5 => Post (.inl none) w5)))) : pw_Wp E m_J29_init_2 (d + 1) 0 [some (va_rf (some a0)), some (va_rf v1)] [] w Post := by
  refine r_aload_n (M := m_J29_init_2) (pc := 0) dJ29_init_2_0 0 rfl rfl ?_
  refine r_I (M := m_J29_init_2) (pc := 1) dJ29_init_2_1 m_J25_init k_J25_init rfl rfl q2136 q1736 (av := []) (dy := d) n_J25_init rfl (pw_c4 (Nat.le_of_ble_eq_true rfl)) (Nat.le_refl _) (H.mono (pw_nx_v (fun w1 H1 => ?_)))
  replace H := H1; clear H1
  refine r_aload_n (M := m_J29_init_2) (pc := 4) dJ29_init_2_4 0 rfl rfl ?_
  refine r_aload_n (M := m_J29_init_2) (pc := 5) dJ29_init_2_5 1 rfl rfl ?_
  obtain ⟨a2, fs3, e9, h4, h4b, H⟩ := H; cases e9
  refine r_put (M := m_J29_init_2) (pc := 6) dJ29_init_2_6 "java/util/TreeSet" 26 0 _ rfl (Nat.le_of_ble_eq_true rfl) q2137 (Or.inl rfl) rfl h4 (Nat.le_of_ble_eq_true rfl) h4b (nar_ro _ _) (fit_ro _ _) ?_
  exact r_return (M := m_J29_init_2) (pc := 9) dJ29_init_2_9 rfl H
theorem e_J29_init_2 {E : pw_E} {d : Nat} {w : pw_W} {Post : pw_R → pw_W → Prop} (a0 : Nat) (v1 : Option Nat) (H : pw_Wp E m_J29_init_2 d 0 [some (va_rf (some a0)), some (va_rf v1)] [] w Post) : pw_Cl E m_J29_init_2 d [va_rf (some a0), va_rf v1] w Post := pw_meth (by decide) rfl (pw_e1 (pw_cat_rf _) (pw_e1 (pw_cat_rf _) (pw_e0 (n := 0)))) H
theorem s_J29_iterator_0 {E : pw_E} {d : Nat} {w : pw_W} {Post : pw_R → pw_W → Prop} (v0 : Option Nat) (H : f_getr w v0 26 0 (fun x1 => f_V E w x1 22 m_J18_navigableKeySet d [] (c_r (fun o6 w5 => f_V E w5 o6 24 m_J26_iterator d [] (c_r (fun o11 w10 => Post (.inl (some (va_rf o11))) w10)))))) : pw_Wp E m_J29_iterator (d + 1) 0 [some (va_rf v0)] [] w Post := by
  refine r_aload_n (M := m_J29_iterator) (pc := 0) dJ29_iterator_0 0 rfl rfl ?_
  obtain ⟨a2, fs3, x1, e9, h4, h4v, H⟩ := H; cases e9
  refine r_get (M := m_J29_iterator) (pc := 1) dJ29_iterator_1 "java/util/TreeSet" 26 0 _ rfl (Nat.le_of_ble_eq_true rfl) q2137 (Or.inl rfl) h4 (Nat.le_of_ble_eq_true rfl) h4v ?_
  obtain ⟨a7, us8, e9, h9, H⟩ := H; cases e9
  refine r_F (M := m_J29_iterator) (pc := 4) dJ29_iterator_4 ⟨"java/util/NavigableMap", "navigableKeySet", "()Ljava/util/NavigableSet;"⟩ m_J18_navigableKeySet k_J18_navigableKeySet q1795 q1727 22 _ rfl q1799 (pw_fwm 8 rfl) (av := []) (dy := d) (pw_nyt (n := 0) (by decide +kernel) (by decide +kernel)) h9 rfl (pw_c4 (Nat.le_of_ble_eq_true rfl)) (Nat.le_refl _) (H.mono (pw_nx_r (fun o6 w5 H1 => ?_)))
  replace H := H1; clear H1
  obtain ⟨a12, us13, e9, h14, H⟩ := H; cases e9
  refine r_F (M := m_J29_iterator) (pc := 9) dJ29_iterator_9 ⟨"java/util/NavigableSet", "iterator", "()Ljava/util/Iterator;"⟩ m_J26_iterator k_J26_iterator q1803 q1750 24 _ rfl q1807 (pw_fwm 9 rfl) (av := []) (dy := d) (pw_nyt (n := 0) (by decide +kernel) (by decide +kernel)) h14 rfl (pw_c4 (Nat.le_of_ble_eq_true rfl)) (Nat.le_refl _) (H.mono (pw_nx_r (fun o11 w10 H1 => ?_)))
  replace H := H1; clear H1
  exact r_areturn (M := m_J29_iterator) (pc := 14) dJ29_iterator_14 rfl (by simp) H
theorem e_J29_iterator {E : pw_E} {d : Nat} {w : pw_W} {Post : pw_R → pw_W → Prop} (v0 : Option Nat) (H : pw_Wp E m_J29_iterator d 0 [some (va_rf v0)] [] w Post) : pw_Cl E m_J29_iterator d [va_rf v0] w Post := pw_meth (by decide) rfl (pw_e1 (pw_cat_rf _) (pw_e0 (n := 0))) H
theorem s_J29_size_0 {E : pw_E} {d : Nat} {w : pw_W} {Post : pw_R → pw_W → Prop} (v0 : Option Nat) (H : f_getr w v0 26 0 (fun x1 => f_V E w x1 22 m_J18_size d [] (c_i (fun x6 w5 => Post (.inl (some (.int x6))) w5)))) : pw_Wp E m_J29_size (d + 1) 0 [some (va_rf v0)] [] w Post := by
  refine r_aload_n (M := m_J29_size) (pc := 0) dJ29_size_0 0 rfl rfl ?_
  obtain ⟨a2, fs3, x1, e9, h4, h4v, H⟩ := H; cases e9
  refine r_get (M := m_J29_size) (pc := 1) dJ29_size_1 "java/util/TreeSet" 26 0 _ rfl (Nat.le_of_ble_eq_true rfl) q2137 (Or.inl rfl) h4 (Nat.le_of_ble_eq_true rfl) h4v ?_
  obtain ⟨a9, us7, e9, h8, H⟩ := H; cases e9
  refine r_NF (M := m_J29_size) (pc := 4) dJ29_size_4 1 rfl ⟨rfl, rfl⟩ m_J18_size k_J18_size q1841 22 _ rfl q2171 q2170 q2169 q2173 q2172 q1798 (by decide) (av := []) (dy := d) (pw_nyl (n := 0) (by decide +kernel)) h8 rfl (pw_c4 (Nat.le_of_ble_eq_true rfl)) (Nat.le_refl _) (H.mono (pw_nx_i (fun x6 w5 H1 => ?_)))
  replace H := H1; clear H1
  exact r_ireturn (M := m_J29_size) (pc := 9) dJ29_size_9 rfl H
theorem e_J29_size {E : pw_E} {d : Nat} {w : pw_W} {Post : pw_R → pw_W → Prop} (v0 : Option Nat) (H : pw_Wp E m_J29_size d 0 [some (va_rf v0)] [] w Post) : pw_Cl E m_J29_size d [va_rf v0] w Post := pw_meth (by decide) rfl (pw_e1 (pw_cat_rf _) (pw_e0 (n := 0))) H
theorem s_J2_add_0 {E : pw_E} {d : Nat} {w : pw_W} {Post : pw_R → pw_W → Prop} (v0 : Option Nat) (v1 : Option Nat) (H : f_geti w v0 18 0 (fun x1 => f_put E w v0 18 0 (.int (x1 + 1)) (fun w8 => f_getr w8 v0 18 1 (fun x9 => f_geti w8 v0 18 2 (fun x13 => f_V E w8 v0 18 m_J2_add_2 d [va_rf v1, va_rf x9, .int x13] (c_v (fun w17 => Post (.inl (some (.int 1))) w17))))))) : pw_Wp E m_J2_add (d + 1) 0 [some (va_rf v0), some (va_rf v1)] [] w Post := by
  refine r_aload_n (M := m_J2_add) (pc := 0) dJ2_add_0 0 rfl rfl ?_
  refine r_dup (M := m_J2_add) (pc := 1) dJ2_add_1 (pw_cat_rf _) ?_
  obtain ⟨a2, fs3, x1, e9, h4, h4v, H⟩ := H; cases e9
  refine r_get (M := m_J2_add) (pc := 2) dJ2_add_2 "java/util/ArrayList" 18 0 _ rfl (Nat.le_of_ble_eq_true rfl) q228 (Or.inr q227) h4 (Nat.le_of_ble_eq_true rfl) h4v ?_
  refine r_iconst (M := m_J2_add) (pc := 5) dJ2_add_5 1 rfl ?_
  refine r_iadd (M := m_J2_add) (pc := 6) dJ2_add_6 ?_
  obtain ⟨a5, fs6, e9, h7, h7b, H⟩ := H; cases e9
  refine r_put (M := m_J2_add) (pc := 7) dJ2_add_7 "java/util/ArrayList" 18 0 _ rfl (Nat.le_of_ble_eq_true rfl) q228 (Or.inr q227) rfl h7 (Nat.le_of_ble_eq_true rfl) h7b rfl rfl ?_
  refine r_aload_n (M := m_J2_add) (pc := 10) dJ2_add_10 0 rfl rfl ?_
  refine r_aload_n (M := m_J2_add) (pc := 11) dJ2_add_11 1 rfl rfl ?_
  refine r_aload_n (M := m_J2_add) (pc := 12) dJ2_add_12 0 rfl rfl ?_
  obtain ⟨a10, fs11, x9, e9, h12, h12v, H⟩ := H; cases e9
  refine r_get (M := m_J2_add) (pc := 13) dJ2_add_13 "java/util/ArrayList" 18 1 _ rfl (Nat.le_of_ble_eq_true rfl) q221 (Or.inl rfl) h12 (Nat.le_of_ble_eq_true rfl) h12v ?_
  refine r_aload_n (M := m_J2_add) (pc := 16) dJ2_add_16 0 rfl rfl ?_
  obtain ⟨a14, fs15, x13, e9, h16, h16v, H⟩ := H; cases e9
  refine r_get (M := m_J2_add) (pc := 17) dJ2_add_17 "java/util/ArrayList" 18 2 _ rfl (Nat.le_of_ble_eq_true rfl) q224 (Or.inl rfl) h16 (Nat.le_of_ble_eq_true rfl) h16v ?_
  obtain ⟨a18, us19, e9, h20, H⟩ := H; cases e9
  refine r_V (M := m_J2_add) (pc := 20) dJ2_add_20 m_J2_add_2 k_J2_add_2 q769 q771 18 _ rfl qs4 (av := [va_rf _, va_rf _, .int _]) (dy := d) n_J2_add_2 h20 rfl (pw_c4 (Nat.le_of_ble_eq_true rfl)) (Nat.le_refl _) (H.mono (pw_nx_v (fun w17 H1 => ?_)))
  replace H := H1; clear H1
  refine r_iconst (M := m_J2_add) (pc := 23) dJ2_add_23 1 rfl ?_
  exact r_zreturn (M := m_J2_add) (pc := 24) dJ2_add_24 rfl rfl H
theorem e_J2_add {E : pw_E} {d : Nat} {w : pw_W} {Post : pw_R → pw_W → Prop} (v0 : Option Nat) (v1 : Option Nat) (H : pw_Wp E m_J2_add d 0 [some (va_rf v0), some (va_rf v1)] [] w Post) : pw_Cl E m_J2_add d [va_rf v0, va_rf v1] w Post := pw_meth (by decide) rfl (pw_e1 (pw_cat_rf _) (pw_e1 (pw_cat_rf _) (pw_e0 (n := 0)))) H
theorem s_J2_addAll_0 {E : pw_E} {d : Nat} {w : pw_W} {Post : pw_R → pw_W → Prop} (v0 : Option Nat) (v1 : Option Nat) (H : f_V E w v1 18 m_J2_toArray d [] (c_r (fun o2 w1 => f_geti w1 v0 18 0 (fun x6 => f_put E w1 v0 18 0 (.int (x6 + 1)) (fun w13 => f_len w13 o2 (fun x14 => (if x14 = 0 then Post (.inl (some (.int 0))) w13 else f_getr w13 v0 18 1 (fun x19 => f_len w13 x19 (fun x23 => f_geti w13 v0 18 2 (fun x28 => (if x14 ≤ (x23 - x28) then f_copy E w13 o2 0 x19 x28 x14 (fun w32 => f_put E w32 v0 18 2 (.int (x28 + x14)) (fun w36 => Post (.inl (some (.int 1))) w36)) else f_V E w13 v0 18 m_J2_grow_2 d [.int (x28 + x14)] (c_r (fun o38 w37 => f_copy E w37 o2 0 o38 x28 x14 (fun w42 => f_put E w42 v0 18 2 (.int (x28 + x14)) (fun w46 => Post (.inl (some (.int 1))) w46))))))))))))))) : pw_Wp E m_J2_addAll (d + 1) 0 [some (va_rf v0), some (va_rf v1), none, none, none, none] [] w Post := by
  refine r_aload_n (M := m_J2_addAll) (pc := 0) dJ2_addAll_0 1 rfl rfl ?_
  obtain ⟨a3, us4, e9, h5, H⟩ := H; cases e9
  refine r_F (M := m_J2_addAll) (pc := 1) dJ2_addAll_1 ⟨"java/util/Collection", "toArray", "()[Ljava/lang/Object;"⟩ m_J2_toArray k_J2_toArray q2422 q2428 18 _ rfl q2426 (pw_fwm 4 rfl) (av := []) (dy := d) (pw_nyt (n := 0) (by decide +kernel) (by decide +kernel)) h5 rfl (pw_c4 (Nat.le_of_ble_eq_true rfl)) (Nat.le_refl _) (H.mono (pw_nx_r (fun o2 w1 H1 => ?_)))
  replace H := H1; clear H1
  refine r_astore_n (M := m_J2_addAll) (pc := 6) dJ2_addAll_6 2 rfl (Nat.le_of_ble_eq_true rfl) (pw_pre_rf rfl) ?_
  refine r_aload_n (M := m_J2_addAll) (pc := 7) dJ2_addAll_7 0 rfl rfl ?_
  refine r_dup (M := m_J2_addAll) (pc := 8) dJ2_addAll_8 (pw_cat_rf _) ?_
  obtain ⟨a7, fs8, x6, e9, h9, h9v, H⟩ := H; cases e9
  refine r_get (M := m_J2_addAll) (pc := 9) dJ2_addAll_9 "java/util/ArrayList" 18 0 _ rfl (Nat.le_of_ble_eq_true rfl) q228 (Or.inr q227) h9 (Nat.le_of_ble_eq_true rfl) h9v ?_
  refine r_iconst (M := m_J2_addAll) (pc := 12) dJ2_addAll_12 1 rfl ?_
  refine r_iadd (M := m_J2_addAll) (pc := 13) dJ2_addAll_13 ?_
  obtain ⟨a10, fs11, e9, h12, h12b, H⟩ := H; cases e9
  refine r_put (M := m_J2_addAll) (pc := 14) dJ2_addAll_14 "java/util/ArrayList" 18 0 _ rfl (Nat.le_of_ble_eq_true rfl) q228 (Or.inr q227) rfl h12 (Nat.le_of_ble_eq_true rfl) h12b rfl rfl ?_
  refine r_aload_n (M := m_J2_addAll) (pc := 17) dJ2_addAll_17 2 rfl rfl ?_
  obtain ⟨a15, t16, tyt16, vs17, e9, h18, h18t, H⟩ := H; cases e9
  refine r_alen (M := m_J2_addAll) (pc := 18) dJ2_addAll_18 t16 tyt16 h18t h18 ?_
  refine r_istore_n (M := m_J2_addAll) (pc := 19) dJ2_addAll_19 3 rfl (Nat.le_of_ble_eq_true rfl) (pw_pre_rf rfl) ?_
  refine r_iload_n (M := m_J2_addAll) (pc := 20) dJ2_addAll_20 3 rfl rfl ?_
  refine r_if_ne (M := m_J2_addAll) (pc := 21) dJ2_addAll_21 26 (by decide) (fun hc => ?_) (fun hc => ?_)
  · replace H := f_if H hc
    refine r_iload_n (M := m_J2_addAll) (pc := 26) dJ2_addAll_26 3 rfl rfl ?_
    refine r_aload_n (M := m_J2_addAll) (pc := 27) dJ2_addAll_27 0 rfl rfl ?_
    obtain ⟨a20, fs21, x19, e9, h22, h22v, H⟩ := H; cases e9
    refine r_get (M := m_J2_addAll) (pc := 28) dJ2_addAll_28 "java/util/ArrayList" 18 1 _ rfl (Nat.le_of_ble_eq_true rfl) q221 (Or.inl rfl) h22 (Nat.le_of_ble_eq_true rfl) h22v ?_
    refine r_dup (M := m_J2_addAll) (pc := 31) dJ2_addAll_31 (pw_cat_rf _) ?_
    refine r_astore (M := m_J2_addAll) (pc := 32) dJ2_addAll_32 (Nat.le_of_ble_eq_true rfl) rfl ?_
    obtain ⟨a24, t25, tyt25, vs26, e9, h27, h27t, H⟩ := H; cases e9
    refine r_alen (M := m_J2_addAll) (pc := 34) dJ2_addAll_34 t25 tyt25 h27t h27 ?_
    refine r_aload_n (M := m_J2_addAll) (pc := 35) dJ2_addAll_35 0 rfl rfl ?_
    obtain ⟨a29, fs30, x28, e9, h31, h31v, H⟩ := H; cases e9
    refine r_get (M := m_J2_addAll) (pc := 36) dJ2_addAll_36 "java/util/ArrayList" 18 2 _ rfl (Nat.le_of_ble_eq_true rfl) q224 (Or.inl rfl) h31 (Nat.le_of_ble_eq_true rfl) h31v ?_
    refine r_dup (M := m_J2_addAll) (pc := 39) dJ2_addAll_39 rfl ?_
    refine r_istore (M := m_J2_addAll) (pc := 40) dJ2_addAll_40 (Nat.le_of_ble_eq_true rfl) (pw_pre_rf rfl) ?_
    refine r_isub (M := m_J2_addAll) (pc := 42) dJ2_addAll_42 ?_
    refine r_icmp_le (M := m_J2_addAll) (pc := 43) dJ2_addAll_43 56 (by decide) (fun hc => ?_) (fun hc => ?_)
    · replace H := f_it H hc
      refine r_aload_n (M := m_J2_addAll) (pc := 56) dJ2_addAll_56 2 rfl rfl ?_
      refine r_iconst (M := m_J2_addAll) (pc := 57) dJ2_addAll_57 0 rfl ?_
      refine r_aload (M := m_J2_addAll) (pc := 58) dJ2_addAll_58 rfl ?_
      refine r_iload (M := m_J2_addAll) (pc := 60) dJ2_addAll_60 rfl ?_
      refine r_iload_n (M := m_J2_addAll) (pc := 62) dJ2_addAll_62 3 rfl rfl ?_
      refine r_copyF (M := m_J2_addAll) (pc := 63) dJ2_addAll_63 q2500 q410 q409 q151 H (pw_c4 (Nat.le_of_ble_eq_true rfl)) (fun w32 H1 => ?_)
      replace H := H1; clear H1
      refine r_aload_n (M := m_J2_addAll) (pc := 66) dJ2_addAll_66 0 rfl rfl ?_
      refine r_iload (M := m_J2_addAll) (pc := 67) dJ2_addAll_67 rfl ?_
      refine r_iload_n (M := m_J2_addAll) (pc := 69) dJ2_addAll_69 3 rfl rfl ?_
      refine r_iadd (M := m_J2_addAll) (pc := 70) dJ2_addAll_70 ?_
      obtain ⟨a33, fs34, e9, h35, h35b, H⟩ := H; cases e9
      refine r_put (M := m_J2_addAll) (pc := 71) dJ2_addAll_71 "java/util/ArrayList" 18 2 _ rfl (Nat.le_of_ble_eq_true rfl) q224 (Or.inl rfl) rfl h35 (Nat.le_of_ble_eq_true rfl) h35b rfl rfl ?_
      refine r_iconst (M := m_J2_addAll) (pc := 74) dJ2_addAll_74 1 rfl ?_
      exact r_zreturn (M := m_J2_addAll) (pc := 75) dJ2_addAll_75 rfl rfl H
    · replace H := f_if H hc
      refine r_aload_n (M := m_J2_addAll) (pc := 46) dJ2_addAll_46 0 rfl rfl ?_
      refine r_iload (M := m_J2_addAll) (pc := 47) dJ2_addAll_47 rfl ?_
      refine r_iload_n (M := m_J2_addAll) (pc := 49) dJ2_addAll_49 3 rfl rfl ?_
      refine r_iadd (M := m_J2_addAll) (pc := 50) dJ2_addAll_50 ?_
      obtain ⟨a39, us40, e9, h41, H⟩ := H; cases e9
      refine r_V (M := m_J2_addAll) (pc := 51) dJ2_addAll_51 m_J2_grow_2 k_J2_grow_2 q777 q779 18 _ rfl qs6 (av := [.int _]) (dy := d) n_J2_grow_2 h41 rfl (pw_c4 (Nat.le_of_ble_eq_true rfl)) (Nat.le_refl _) (H.mono (pw_nx_r (fun o38 w37 H1 => ?_)))
      replace H := H1; clear H1
      refine r_astore (M := m_J2_addAll) (pc := 54) dJ2_addAll_54 (Nat.le_of_ble_eq_true rfl) rfl ?_
      refine r_aload_n (M := m_J2_addAll) (pc := 56) dJ2_addAll_56 2 rfl rfl ?_
      refine r_iconst (M := m_J2_addAll) (pc := 57) dJ2_addAll_57 0 rfl ?_
      refine r_aload (M := m_J2_addAll) (pc := 58) dJ2_addAll_58 rfl ?_
      refine r_iload (M := m_J2_addAll) (pc := 60) dJ2_addAll_60 rfl ?_
      refine r_iload_n (M := m_J2_addAll) (pc := 62) dJ2_addAll_62 3 rfl rfl ?_
      refine r_copyF (M := m_J2_addAll) (pc := 63) dJ2_addAll_63 q2500 q410 q409 q151 H (pw_c4 (Nat.le_of_ble_eq_true rfl)) (fun w42 H1 => ?_)
      replace H := H1; clear H1
      refine r_aload_n (M := m_J2_addAll) (pc := 66) dJ2_addAll_66 0 rfl rfl ?_
      refine r_iload (M := m_J2_addAll) (pc := 67) dJ2_addAll_67 rfl ?_
      refine r_iload_n (M := m_J2_addAll) (pc := 69) dJ2_addAll_69 3 rfl rfl ?_
      refine r_iadd (M := m_J2_addAll) (pc := 70) dJ2_addAll_70 ?_
      obtain ⟨a43, fs44, e9, h45, h45b, H⟩ := H; cases e9
      refine r_put (M := m_J2_addAll) (pc := 71) dJ2_addAll_71 "java/util/ArrayList" 18 2 _ rfl (Nat.le_of_ble_eq_true rfl) q224 (Or.inl rfl) rfl h45 (Nat.le_of_ble_eq_true rfl) h45b rfl rfl ?_
      refine r_iconst (M := m_J2_addAll) (pc := 74) dJ2_addAll_74 1 rfl ?_
      exact r_zreturn (M := m_J2_addAll) (pc := 75) dJ2_addAll_75 rfl rfl H
  · replace H := f_it H hc
    refine r_iconst (M := m_J2_addAll) (pc := 24) dJ2_addAll_24 0 rfl ?_
    exact r_zreturn (M := m_J2_addAll) (pc := 25) dJ2_addAll_25 rfl rfl H
theorem e_J2_addAll {E : pw_E} {d : Nat} {w : pw_W} {Post : pw_R → pw_W → Prop} (v0 : Option Nat) (v1 : Option Nat) (H : pw_Wp E m_J2_addAll d 0 [some (va_rf v0), some (va_rf v1), none, none, none, none] [] w Post) : pw_Cl E m_J2_addAll d [va_rf v0, va_rf v1] w Post := pw_meth (by decide) rfl (pw_e1 (pw_cat_rf _) (pw_e1 (pw_cat_rf _) (pw_e0 (n := 4)))) H
theorem s_J2_add_2_0 {E : pw_E} {d : Nat} {w : pw_W} {Post : pw_R → pw_W → Prop} (v0 : Option Nat) (v1 : Option Nat) (v2 : Option Nat) (v3 : Int32) (H : f_len w v2 (fun x1 => (if v3 = x1 then f_V E w v0 18 m_J2_grow d [] (c_r (fun o16 w15 => f_astr E w15 o16 v3 v1 (fun w24 => f_put E w24 v0 18 2 (.int (v3 + 1)) (fun w28 => Post (.inl none) w28)))) else f_astr E w v2 v3 v1 (fun w10 => f_put E w10 v0 18 2 (.int (v3 + 1)) (fun w14 => Post (.inl none) w14))))) : pw_Wp E m_J2_add_2 (d + 1) 0 [some (va_rf v0), some (va_rf v1), some (va_rf v2), some (.int v3)] [] w Post := by
  refine r_iload_n (M := m_J2_add_2) (pc := 0) dJ2_add_2_0 3 rfl rfl ?_
  refine r_aload_n (M := m_J2_add_2) (pc := 1) dJ2_add_2_1 2 rfl rfl ?_
  obtain ⟨a2, t3, tyt3, vs4, e9, h5, h5t, H⟩ := H; cases e9
  refine r_alen (M := m_J2_add_2) (pc := 2) dJ2_add_2_2 t3 tyt3 h5t h5 ?_
  refine r_icmp_ne (M := m_J2_add_2) (pc := 3) dJ2_add_2_3 11 (by decide) (fun hc => ?_) (fun hc => ?_)
  · replace H := f_if H hc
    refine r_aload_n (M := m_J2_add_2) (pc := 11) dJ2_add_2_11 2 rfl rfl ?_
    refine r_iload_n (M := m_J2_add_2) (pc := 12) dJ2_add_2_12 3 rfl rfl ?_
    refine r_aload_n (M := m_J2_add_2) (pc := 13) dJ2_add_2_13 1 rfl rfl ?_
    obtain ⟨a6, t7, Ct7, vs8, e9, h9, h9t, h96, h9b, h90, h9l, h9o, H⟩ := H; cases e9
    refine r_aastore (M := m_J2_add_2) (pc := 14) dJ2_add_2_14 t7 Ct7 h9t h96 h9 h9b h90 h9l h9o ?_
    refine r_aload_n (M := m_J2_add_2) (pc := 15) dJ2_add_2_15 0 rfl rfl ?_
    refine r_iload_n (M := m_J2_add_2) (pc := 16) dJ2_add_2_16 3 rfl rfl ?_
    refine r_iconst (M := m_J2_add_2) (pc := 17) dJ2_add_2_17 1 rfl ?_
    refine r_iadd (M := m_J2_add_2) (pc := 18) dJ2_add_2_18 ?_
    obtain ⟨a11, fs12, e9, h13, h13b, H⟩ := H; cases e9
    refine r_put (M := m_J2_add_2) (pc := 19) dJ2_add_2_19 "java/util/ArrayList" 18 2 _ rfl (Nat.le_of_ble_eq_true rfl) q224 (Or.inl rfl) rfl h13 (Nat.le_of_ble_eq_true rfl) h13b rfl rfl ?_
    exact r_return (M := m_J2_add_2) (pc := 22) dJ2_add_2_22 rfl H
  · replace H := f_it H hc
    refine r_aload_n (M := m_J2_add_2) (pc := 6) dJ2_add_2_6 0 rfl rfl ?_
    obtain ⟨a17, us18, e9, h19, H⟩ := H; cases e9
    refine r_V (M := m_J2_add_2) (pc := 7) dJ2_add_2_7 m_J2_grow k_J2_grow q773 q775 18 _ rfl qs5 (av := []) (dy := d) n_J2_grow h19 rfl (pw_c4 (Nat.le_of_ble_eq_true rfl)) (Nat.le_refl _) (H.mono (pw_nx_r (fun o16 w15 H1 => ?_)))
    replace H := H1; clear H1
    refine r_astore_n (M := m_J2_add_2) (pc := 10) dJ2_add_2_10 2 rfl (Nat.le_of_ble_eq_true rfl) (pw_pre_rf rfl) ?_
    refine r_aload_n (M := m_J2_add_2) (pc := 11) dJ2_add_2_11 2 rfl rfl ?_
    refine r_iload_n (M := m_J2_add_2) (pc := 12) dJ2_add_2_12 3 rfl rfl ?_
    refine r_aload_n (M := m_J2_add_2) (pc := 13) dJ2_add_2_13 1 rfl rfl ?_
    obtain ⟨a20, t21, Ct21, vs22, e9, h23, h23t, h236, h23b, h230, h23l, h23o, H⟩ := H; cases e9
    refine r_aastore (M := m_J2_add_2) (pc := 14) dJ2_add_2_14 t21 Ct21 h23t h236 h23 h23b h230 h23l h23o ?_
    refine r_aload_n (M := m_J2_add_2) (pc := 15) dJ2_add_2_15 0 rfl rfl ?_
    refine r_iload_n (M := m_J2_add_2) (pc := 16) dJ2_add_2_16 3 rfl rfl ?_
    refine r_iconst (M := m_J2_add_2) (pc := 17) dJ2_add_2_17 1 rfl ?_
    refine r_iadd (M := m_J2_add_2) (pc := 18) dJ2_add_2_18 ?_
    obtain ⟨a25, fs26, e9, h27, h27b, H⟩ := H; cases e9
    refine r_put (M := m_J2_add_2) (pc := 19) dJ2_add_2_19 "java/util/ArrayList" 18 2 _ rfl (Nat.le_of_ble_eq_true rfl) q224 (Or.inl rfl) rfl h27 (Nat.le_of_ble_eq_true rfl) h27b rfl rfl ?_
    exact r_return (M := m_J2_add_2) (pc := 22) dJ2_add_2_22 rfl H
theorem e_J2_add_2 {E : pw_E} {d : Nat} {w : pw_W} {Post : pw_R → pw_W → Prop} (v0 : Option Nat) (v1 : Option Nat) (v2 : Option Nat) (v3 : Int32) (H : pw_Wp E m_J2_add_2 d 0 [some (va_rf v0), some (va_rf v1), some (va_rf v2), some (.int v3)] [] w Post) : pw_Cl E m_J2_add_2 d [va_rf v0, va_rf v1, va_rf v2, .int v3] w Post := pw_meth (by decide) rfl (pw_e1 (pw_cat_rf _) (pw_e1 (pw_cat_rf _) (pw_e1 (pw_cat_rf _) (pw_e1 rfl (pw_e0 (n := 0)))))) H
theorem s_J2_clear_0 {E : pw_E} {d : Nat} {w : pw_W} {Post : pw_R → pw_W → Prop} (v0 : Option Nat) (H : f_geti w v0 18 0 (fun x1 => f_put E w v0 18 0 (.int (x1 + 1)) (fun w8 => f_getr w8 v0 18 1 (fun x9 => f_geti w8 v0 18 2 (fun x13 => f_put E w8 v0 18 2 (.int 0) (fun w20 => pw_Wp E m_J2_clear (d + 1) 27 [none, some (va_rf x9), some (.int x13), some (.int 0)] [] w20 Post)))))) : pw_Wp E m_J2_clear (d + 1) 0 [some (va_rf v0), none, none, none] [] w Post := by
  refine r_aload_n (M := m_J2_clear) (pc := 0) dJ2_clear_0 0 rfl rfl ?_
  refine r_dup (M := m_J2_clear) (pc := 1) dJ2_clear_1 (pw_cat_rf _) ?_
  obtain ⟨a2, fs3, x1, e9, h4, h4v, H⟩ := H; cases e9
  refine r_get (M := m_J2_clear) (pc := 2) dJ2_clear_2 "java/util/ArrayList" 18 0 _ rfl (Nat.le_of_ble_eq_true rfl) q228 (Or.inr q227) h4 (Nat.le_of_ble_eq_true rfl) h4v ?_
  refine r_iconst (M := m_J2_clear) (pc := 5) dJ2_clear_5 1 rfl ?_
  refine r_iadd (M := m_J2_clear) (pc := 6) dJ2_clear_6 ?_
  obtain ⟨a5, fs6, e9, h7, h7b, H⟩ := H; cases e9
  refine r_put (M := m_J2_clear) (pc := 7) dJ2_clear_7 "java/util/ArrayList" 18 0 _ rfl (Nat.le_of_ble_eq_true rfl) q228 (Or.inr q227) rfl h7 (Nat.le_of_ble_eq_true rfl) h7b rfl rfl ?_
  refine r_aload_n (M := m_J2_clear) (pc := 10) dJ2_clear_10 0 rfl rfl ?_
  obtain ⟨a10, fs11, x9, e9, h12, h12v, H⟩ := H; cases e9
  refine r_get (M := m_J2_clear) (pc := 11) dJ2_clear_11 "java/util/ArrayList" 18 1 _ rfl (Nat.le_of_ble_eq_true rfl) q221 (Or.inl rfl) h12 (Nat.le_of_ble_eq_true rfl) h12v ?_
  refine r_astore_n (M := m_J2_clear) (pc := 14) dJ2_clear_14 1 rfl (Nat.le_of_ble_eq_true rfl) (pw_pre_rf rfl) ?_
  refine r_aload_n (M := m_J2_clear) (pc := 15) dJ2_clear_15 0 rfl rfl ?_
  obtain ⟨a14, fs15, x13, e9, h16, h16v, H⟩ := H; cases e9
  refine r_get (M := m_J2_clear) (pc := 16) dJ2_clear_16 "java/util/ArrayList" 18 2 _ rfl (Nat.le_of_ble_eq_true rfl) q224 (Or.inl rfl) h16 (Nat.le_of_ble_eq_true rfl) h16v ?_
  refine r_istore_n (M := m_J2_clear) (pc := 19) dJ2_clear_19 2 rfl (Nat.le_of_ble_eq_true rfl) (pw_pre_rf rfl) ?_
  refine r_aload_n (M := m_J2_clear) (pc := 20) dJ2_clear_20 0 rfl rfl ?_
  refine r_iconst (M := m_J2_clear) (pc := 21) dJ2_clear_21 0 rfl ?_
  refine r_dup_x1 (M := m_J2_clear) (pc := 22) dJ2_clear_22 rfl (pw_cat_rf _) ?_
  obtain ⟨a17, fs18, e9, h19, h19b, H⟩ := H; cases e9
  refine r_put (M := m_J2_clear) (pc := 23) dJ2_clear_23 "java/util/ArrayList" 18 2 _ rfl (Nat.le_of_ble_eq_true rfl) q224 (Or.inl rfl) rfl h19 (Nat.le_of_ble_eq_true rfl) h19b rfl rfl ?_
  refine r_istore_n (M := m_J2_clear) (pc := 26) dJ2_clear_26 3 rfl (Nat.le_of_ble_eq_true rfl) rfl ?_
  exact pw_weak (le_n (le_s (le_s (le_s le_0)))) H
theorem s_J2_clear_27 {E : pw_E} {d : Nat} {w : pw_W} {Post : pw_R → pw_W → Prop} (v1 : Option Nat) (v2 : Int32) (v3 : Int32) (H : (if v2 ≤ v3 then Post (.inl none) w else f_astr E w v1 v3 none (fun w5 => pw_Wp E m_J2_clear (d + 1) 27 [none, some (va_rf v1), some (.int v2), some (.int (v3 + 1))] [] w5 Post))) : pw_Wp E m_J2_clear (d + 1) 27 [none, some (va_rf v1), some (.int v2), some (.int v3)] [] w Post := by
  refine r_iload_n (M := m_J2_clear) (pc := 27) dJ2_clear_27 3 rfl rfl ?_
  refine r_iload_n (M := m_J2_clear) (pc := 28) dJ2_clear_28 2 rfl rfl ?_
  refine r_icmp_ge (M := m_J2_clear) (pc := 29) dJ2_clear_29 42 (by decide) (fun hc => ?_) (fun hc => ?_)
  · replace H := f_it H hc
    exact r_return (M := m_J2_clear) (pc := 42) dJ2_clear_42 rfl H
  · replace H := f_if H hc
    refine r_aload_n (M := m_J2_clear) (pc := 32) dJ2_clear_32 1 rfl rfl ?_
    refine r_iload_n (M := m_J2_clear) (pc := 33) dJ2_clear_33 3 rfl rfl ?_
    refine r_null (M := m_J2_clear) (pc := 34) dJ2_clear_34 ?_
    obtain ⟨a1, t2, Ct2, vs3, e9, h4, h4t, h46, h4b, h40, h4l, h4o, H⟩ := H; cases e9
    refine r_aastore (M := m_J2_clear) (pc := 35) dJ2_clear_35 t2 Ct2 h4t h46 h4 h4b h40 h4l h4o ?_
    refine r_iinc (M := m_J2_clear) (pc := 36) dJ2_clear_36 1 rfl rfl (Nat.le_of_ble_eq_true rfl) rfl ?_
    refine r_goto (M := m_J2_clear) (pc := 39) dJ2_clear_39 27 (by decide) ?_
    exact pw_weak (le_n (le_s (le_s (le_s le_0)))) H
theorem e_J2_clear {E : pw_E} {d : Nat} {w : pw_W} {Post : pw_R → pw_W → Prop} (v0 : Option Nat) (H : pw_Wp E m_J2_clear d 0 [some (va_rf v0), none, none, none] [] w Post) : pw_Cl E m_J2_clear d [va_rf v0] w Post := pw_meth (by decide) rfl (pw_e1 (pw_cat_rf _) (pw_e0 (n := 3))) H
theorem s_J2_elementData_0 {E : pw_E} {d : Nat} {w : pw_W} {Post : pw_R → pw_W → Prop} (v0 : Option Nat) (v1 : Int32) (H : f_getr w v0 18 1 (fun x1 => f_aldr w x1 v1 (fun x5 => Post (.inl (some (va_rf x5))) w))) : pw_Wp E m_J2_elementData (d + 1) 0 [some (va_rf v0), some (.int v1)] [] w Post := by
  refine r_aload_n (M := m_J2_elementData) (pc := 0) dJ2_elementData_0 0 rfl rfl ?_
  obtain ⟨a2, fs3, x1, e9, h4, h4v, H⟩ := H; cases e9
  refine r_get (M := m_J2_elementData) (pc := 1) dJ2_elementData_1 "java/util/ArrayList" 18 1 _ rfl (Nat.le_of_ble_eq_true rfl) q221 (Or.inl rfl) h4 (Nat.le_of_ble_eq_true rfl) h4v ?_
  refine r_iload_n (M := m_J2_elementData) (pc := 4) dJ2_elementData_4 1 rfl rfl ?_
  obtain ⟨a6, t7, tyt7, vs8, x5, e9, h9, h9t, h9r, h90, h9v, H⟩ := H; cases e9
  refine r_aaload (M := m_J2_elementData) (pc := 5) dJ2_elementData_5 t7 tyt7 h9t h9r h9 h90 h9v ?_
  exact r_areturn (M := m_J2_elementData) (pc := 6) dJ2_elementData_6 rfl (by simp) H
theorem e_J2_elementData {E : pw_E} {d : Nat} {w : pw_W} {Post : pw_R → pw_W → Prop} (v0 : Option Nat) (v1 : Int32) (H : pw_Wp E m_J2_elementData d 0 [some (va_rf v0), some (.int v1)] [] w Post) : pw_Cl E m_J2_elementData d [va_rf v0, .int v1] w Post := pw_meth (by decide) rfl (pw_e1 (pw_cat_rf _) (pw_e1 rfl (pw_e0 (n := 0)))) H
theorem s_J2_get_0 {E : pw_E} {d : Nat} {w : pw_W} {Post : pw_R → pw_W → Prop} (v0 : Option Nat) (v1 : Int32) (H : f_geti w v0 18 2 (fun x1 => pw_Cl E m_J19_checkIndex d [.int v1, .int x1] w (c_i (fun x6 w5 => f_V E w5 v0 18 m_J2_elementData d [.int v1] (c_r (fun o8 w7 => Post (.inl (some (va_rf o8))) w7)))))) : pw_Wp E m_J2_get (d + 1) 0 [some (va_rf v0), some (.int v1)] [] w Post := by
  refine r_iload_n (M := m_J2_get) (pc := 0) dJ2_get_0 1 rfl rfl ?_
  refine r_aload_n (M := m_J2_get) (pc := 1) dJ2_get_1 0 rfl rfl ?_
  obtain ⟨a2, fs3, x1, e9, h4, h4v, H⟩ := H; cases e9
  refine r_get (M := m_J2_get) (pc := 2) dJ2_get_2 "java/util/ArrayList" 18 2 _ rfl (Nat.le_of_ble_eq_true rfl) q224 (Or.inl rfl) h4 (Nat.le_of_ble_eq_true rfl) h4v ?_
  refine r_S (M := m_J2_get) (pc := 5) dJ2_get_5 m_J19_checkIndex k_J19_checkIndex q976 q977 (av := [.int _, .int _]) (dy := d) n_J19_checkIndex rfl (pw_c4 (Nat.le_of_ble_eq_true rfl)) (Nat.le_refl _) (H.mono (pw_nx_i (fun x6 w5 H1 => ?_)))
  replace H := H1; clear H1
  refine r_pop (M := m_J2_get) (pc := 8) dJ2_get_8 rfl ?_
  refine r_aload_n (M := m_J2_get) (pc := 9) dJ2_get_9 0 rfl rfl ?_
  refine r_iload_n (M := m_J2_get) (pc := 10) dJ2_get_10 1 rfl rfl ?_
  obtain ⟨a9, us10, e9, h11, H⟩ := H; cases e9
  refine r_V (M := m_J2_get) (pc := 11) dJ2_get_11 m_J2_elementData k_J2_elementData q980 q981 18 _ rfl q982 (av := [.int _]) (dy := d) n_J2_elementData h11 rfl (pw_c4 (Nat.le_of_ble_eq_true rfl)) (Nat.le_refl _) (H.mono (pw_nx_r (fun o8 w7 H1 => ?_)))
  replace H := H1; clear H1
  exact r_areturn (M := m_J2_get) (pc := 14) dJ2_get_14 rfl (by simp) H
theorem e_J2_get {E : pw_E} {d : Nat} {w : pw_W} {Post : pw_R → pw_W → Prop} (v0 : Option Nat) (v1 : Int32) (H : pw_Wp E m_J2_get d 0 [some (va_rf v0), some (.int v1)] [] w Post) : pw_Cl E m_J2_get d [va_rf v0, .int v1] w Post := pw_meth (by decide) rfl (pw_e1 (pw_cat_rf _) (pw_e1 rfl (pw_e0 (n := 0)))) H
theorem s_J2_grow_0 {E : pw_E} {d : Nat} {w : pw_W} {Post : pw_R → pw_W → Prop} (v0 : Option Nat) (H : f_geti w v0 18 2 (fun x1 => f_V E w v0 18 m_J2_grow_2 d [.int (x1 + 1)] (c_r (fun o6 w5 => Post (.inl (some (va_rf o6))) w5)))) : pw_Wp E m_J2_grow (d + 1) 0 [some (va_rf v0)] [] w Post := by
  refine r_aload_n (M := m_J2_grow) (pc := 0) dJ2_grow_0 0 rfl rfl ?_
  refine r_aload_n (M := m_J2_grow) (pc := 1) dJ2_grow_1 0 rfl rfl ?_
  obtain ⟨a2, fs3, x1, e9, h4, h4v, H⟩ := H; cases e9
  refine r_get (M := m_J2_grow) (pc := 2) dJ2_grow_2 "java/util/ArrayList" 18 2 _ rfl (Nat.le_of_ble_eq_true rfl) q224 (Or.inl rfl) h4 (Nat.le_of_ble_eq_true rfl) h4v ?_
  refine r_iconst (M := m_J2_grow) (pc := 5) dJ2_grow_5 1 rfl ?_
  refine r_iadd (M := m_J2_grow) (pc := 6) dJ2_grow_6 ?_
  obtain ⟨a7, us8, e9, h9, H⟩ := H; cases e9
  refine r_V (M := m_J2_grow) (pc := 7) dJ2_grow_7 m_J2_grow_2 k_J2_grow_2 q777 q779 18 _ rfl qs6 (av := [.int _]) (dy := d) n_J2_grow_2 h9 rfl (pw_c4 (Nat.le_of_ble_eq_true rfl)) (Nat.le_refl _) (H.mono (pw_nx_r (fun o6 w5 H1 => ?_)))
  replace H := H1; clear H1
  exact r_areturn (M := m_J2_grow) (pc := 10) dJ2_grow_10 rfl (by simp) H
theorem e_J2_grow {E : pw_E} {d : Nat} {w : pw_W} {Post : pw_R → pw_W → Prop} (v0 : Option Nat) (H : pw_Wp E m_J2_grow d 0 [some (va_rf v0)] [] w Post) : pw_Cl E m_J2_grow d [va_rf v0] w Post := pw_meth (by decide) rfl (pw_e1 (pw_cat_rf _) (pw_e0 (n := 0))) H
theorem s_J2_grow_2_0 {E : pw_E} {d : Nat} {w : pw_W} {Post : pw_R → pw_W → Prop} (v0 : Option Nat) (v1 : Int32) (H : f_getr w v0 18 1 (fun x1 => f_len w x1 (fun x5 => (if 0 < x5 then pw_Cl E m_J8_newLength d [.int x5, .int (v1 - x5), .int (x5 >>> (1 &&& 31))] w (c_i (fun x11 w10 => f_getr w10 v0 18 1 (fun x12 => pw_Cl E m_J10_copyOf_2 d [va_rf x12, .int x11] w10 (c_r (fun o17 w16 => f_put E w16 v0 18 1 (va_rf o17) (fun w21 => Post (.inl (some (va_rf o17))) w21)))))) else f_getr w v0 18 1 (fun x22 => f_str E 1 (fun x26 => (if x22 = x26 then f_newa w 3 (if 10 < v1 then v1 else 10) (va_rf none) (fun w28 => f_put E w28 v0 18 1 (va_rf (some w.2.1)) (fun w32 => Post (.inl (some (va_rf (some w.2.1)))) w32)) else pw_Cl E m_J8_newLength d [.int x5, .int (v1 - x5), .int (x5 >>> (1 &&& 31))] w (c_i (fun x34 w33 => f_getr w33 v0 18 1 (fun x35 => pw_Cl E m_J10_copyOf_2 d [va_rf x35, .int x34] w33 (c_r (fun o40 w39 => f_put E w39 v0 18 1 (va_rf o40) (fun w44 => Post (.inl (some (va_rf o40))) w44))))))))))))) : pw_Wp E m_J2_grow_2 (d + 1) 0 [some (va_rf v0), some (.int v1), none, none] [] w Post := by
  refine r_aload_n (M := m_J2_grow_2) (pc := 0) dJ2_grow_2_0 0 rfl rfl ?_
  obtain ⟨a2, fs3, x1, e9, h4, h4v, H⟩ := H; cases e9
  refine r_get (M := m_J2_grow_2) (pc := 1) dJ2_grow_2_1 "java/util/ArrayList" 18 1 _ rfl (Nat.le_of_ble_eq_true rfl) q221 (Or.inl rfl) h4 (Nat.le_of_ble_eq_true rfl) h4v ?_
  obtain ⟨a6, t7, tyt7, vs8, e9, h9, h9t, H⟩ := H; cases e9
  refine r_alen (M := m_J2_grow_2) (pc := 4) dJ2_grow_2_4 t7 tyt7 h9t h9 ?_
  refine r_istore_n (M := m_J2_grow_2) (pc := 5) dJ2_grow_2_5 2 rfl (Nat.le_of_ble_eq_true rfl) rfl ?_
  refine r_iload_n (M := m_J2_grow_2) (pc := 6) dJ2_grow_2_6 2 rfl rfl ?_
  refine r_if_gt (M := m_J2_grow_2) (pc := 7) dJ2_grow_2_7 20 (by decide) (fun hc => ?_) (fun hc => ?_)
  · replace H := f_it H hc
    refine r_iload_n (M := m_J2_grow_2) (pc := 20) dJ2_grow_2_20 2 rfl rfl ?_
    refine r_iload_n (M := m_J2_grow_2) (pc := 21) dJ2_grow_2_21 1 rfl rfl ?_
    refine r_iload_n (M := m_J2_grow_2) (pc := 22) dJ2_grow_2_22 2 rfl rfl ?_
    refine r_isub (M := m_J2_grow_2) (pc := 23) dJ2_grow_2_23 ?_
    refine r_iload_n (M := m_J2_grow_2) (pc := 24) dJ2_grow_2_24 2 rfl rfl ?_
    refine r_iconst (M := m_J2_grow_2) (pc := 25) dJ2_grow_2_25 1 rfl ?_
    refine r_ishr (M := m_J2_grow_2) (pc := 26) dJ2_grow_2_26 ?_
    refine r_S (M := m_J2_grow_2) (pc := 27) dJ2_grow_2_27 m_J8_newLength k_J8_newLength q781 q385 (av := [.int _, .int _, .int _]) (dy := d) n_J8_newLength rfl (pw_c4 (Nat.le_of_ble_eq_true rfl)) (Nat.le_refl _) (H.mono (pw_nx_i (fun x11 w10 H1 => ?_)))
    replace H := H1; clear H1
    refine r_istore_n (M := m_J2_grow_2) (pc := 30) dJ2_grow_2_30 3 rfl (Nat.le_of_ble_eq_true rfl) rfl ?_
    refine r_aload_n (M := m_J2_grow_2) (pc := 31) dJ2_grow_2_31 0 rfl rfl ?_
    refine r_aload_n (M := m_J2_grow_2) (pc := 32) dJ2_grow_2_32 0 rfl rfl ?_
    obtain ⟨a13, fs14, x12, e9, h15, h15v, H⟩ := H; cases e9
    refine r_get (M := m_J2_grow_2) (pc := 33) dJ2_grow_2_33 "java/util/ArrayList" 18 1 _ rfl (Nat.le_of_ble_eq_true rfl) q221 (Or.inl rfl) h15 (Nat.le_of_ble_eq_true rfl) h15v ?_
    refine r_iload_n (M := m_J2_grow_2) (pc := 36) dJ2_grow_2_36 3 rfl rfl ?_
    refine r_S (M := m_J2_grow_2) (pc := 37) dJ2_grow_2_37 m_J10_copyOf_2 k_J10_copyOf_2 q782 q783 (av := [va_rf _, .int _]) (dy := d) n_J10_copyOf_2 rfl (pw_c4 (Nat.le_of_ble_eq_true rfl)) (Nat.le_refl _) (H.mono (pw_nx_r (fun o17 w16 H1 => ?_)))
    replace H := H1; clear H1
    refine r_dup_x1 (M := m_J2_grow_2) (pc := 40) dJ2_grow_2_40 (pw_cat_rf _) (pw_cat_rf _) ?_
    obtain ⟨a18, fs19, e9, h20, h20b, H⟩ := H; cases e9
    refine r_put (M := m_J2_grow_2) (pc := 41) dJ2_grow_2_41 "java/util/ArrayList" 18 1 _ rfl (Nat.le_of_ble_eq_true rfl) q221 (Or.inl rfl) rfl h20 (Nat.le_of_ble_eq_true rfl) h20b (nar_ra _ _) (fit_ra _ _) ?_
    exact r_areturn (M := m_J2_grow_2) (pc := 44) dJ2_grow_2_44 rfl (by simp) H
  · replace H := f_if H hc
    refine r_aload_n (M := m_J2_grow_2) (pc := 10) dJ2_grow_2_10 0 rfl rfl ?_
    obtain ⟨a23, fs24, x22, e9, h25, h25v, H⟩ := H; cases e9
    refine r_get (M := m_J2_grow_2) (pc := 11) dJ2_grow_2_11 "java/util/ArrayList" 18 1 _ rfl (Nat.le_of_ble_eq_true rfl) q221 (Or.inl rfl) h25 (Nat.le_of_ble_eq_true rfl) h25v ?_
    obtain ⟨x26, h27, H⟩ := H
    refine r_getstatic (M := m_J2_grow_2) (pc := 14) dJ2_grow_2_14 1 _ rfl q712 h27 ?_
    refine r_acmp_eq (M := m_J2_grow_2) (pc := 17) dJ2_grow_2_17 45 (by decide) (fun hc => ?_) (fun hc => ?_)
    · replace H := f_it H hc
      refine r_aload_n (M := m_J2_grow_2) (pc := 45) dJ2_grow_2_45 0 rfl rfl ?_
      refine r_bipush (M := m_J2_grow_2) (pc := 46) dJ2_grow_2_46 10 rfl ?_
      refine r_iload_n (M := m_J2_grow_2) (pc := 48) dJ2_grow_2_48 1 rfl rfl ?_
      refine r_max (M := m_J2_grow_2) (pc := 49) dJ2_grow_2_49 q827 q388 q149 q389 (Nat.succ_pos _) (pw_c4 (Nat.le_of_ble_eq_true rfl)) ?_
      obtain ⟨hn0, hnb, H⟩ := H
      refine r_anewarray (M := m_J2_grow_2) (pc := 52) dJ2_grow_2_52 3 "java/lang/Object" rfl (Nat.le_of_ble_eq_true rfl) (by simp) q217 hn0 (by omega) ?_
      refine r_dup_x1 (M := m_J2_grow_2) (pc := 55) dJ2_grow_2_55 (pw_cat_rf _) (pw_cat_rf _) ?_
      obtain ⟨a29, fs30, e9, h31, h31b, H⟩ := H; cases e9
      refine r_put (M := m_J2_grow_2) (pc := 56) dJ2_grow_2_56 "java/util/ArrayList" 18 1 _ rfl (Nat.le_of_ble_eq_true rfl) q221 (Or.inl rfl) rfl h31 (Nat.le_of_ble_eq_true rfl) h31b (nar_ra _ _) (fit_ra _ _) ?_
      exact r_areturn (M := m_J2_grow_2) (pc := 59) dJ2_grow_2_59 rfl (by simp) H
    · replace H := f_if H hc
      refine r_iload_n (M := m_J2_grow_2) (pc := 20) dJ2_grow_2_20 2 rfl rfl ?_
      refine r_iload_n (M := m_J2_grow_2) (pc := 21) dJ2_grow_2_21 1 rfl rfl ?_
      refine r_iload_n (M := m_J2_grow_2) (pc := 22) dJ2_grow_2_22 2 rfl rfl ?_
      refine r_isub (M := m_J2_grow_2) (pc := 23) dJ2_grow_2_23 ?_
      refine r_iload_n (M := m_J2_grow_2) (pc := 24) dJ2_grow_2_24 2 rfl rfl ?_
      refine r_iconst (M := m_J2_grow_2) (pc := 25) dJ2_grow_2_25 1 rfl ?_
      refine r_ishr (M := m_J2_grow_2) (pc := 26) dJ2_grow_2_26 ?_
      refine r_S (M := m_J2_grow_2) (pc := 27) dJ2_grow_2_27 m_J8_newLength k_J8_newLength q781 q385 (av := [.int _, .int _, .int _]) (dy := d) n_J8_newLength rfl (pw_c4 (Nat.le_of_ble_eq_true rfl)) (Nat.le_refl _) (H.mono (pw_nx_i (fun x34 w33 H1 => ?_)))
      replace H := H1; clear H1
      refine r_istore_n (M := m_J2_grow_2) (pc := 30) dJ2_grow_2_30 3 rfl (Nat.le_of_ble_eq_true rfl) rfl ?_
      refine r_aload_n (M := m_J2_grow_2) (pc := 31) dJ2_grow_2_31 0 rfl rfl ?_
      refine r_aload_n (M := m_J2_grow_2) (pc := 32) dJ2_grow_2_32 0 rfl rfl ?_
      obtain ⟨a36, fs37, x35, e9, h38, h38v, H⟩ := H; cases e9
      refine r_get (M := m_J2_grow_2) (pc := 33) dJ2_grow_2_33 "java/util/ArrayList" 18 1 _ rfl (Nat.le_of_ble_eq_true rfl) q221 (Or.inl rfl) h38 (Nat.le_of_ble_eq_true rfl) h38v ?_
      refine r_iload_n (M := m_J2_grow_2) (pc := 36) dJ2_grow_2_36 3 rfl rfl ?_
      refine r_S (M := m_J2_grow_2) (pc := 37) dJ2_grow_2_37 m_J10_copyOf_2 k_J10_copyOf_2 q782 q783 (av := [va_rf _, .int _]) (dy := d) n_J10_copyOf_2 rfl (pw_c4 (Nat.le_of_ble_eq_true rfl)) (Nat.le_refl _) (H.mono (pw_nx_r (fun o40 w39 H1 => ?_)))
      replace H := H1; clear H1
      refine r_dup_x1 (M := m_J2_grow_2) (pc := 40) dJ2_grow_2_40 (pw_cat_rf _) (pw_cat_rf _) ?_
      obtain ⟨a41, fs42, e9, h43, h43b, H⟩ := H; cases e9
      refine r_put (M := m_J2_grow_2) (pc := 41) dJ2_grow_2_41 "java/util/ArrayList" 18 1 _ rfl (Nat.le_of_ble_eq_true rfl) q221 (Or.inl rfl) rfl h43 (Nat.le_of_ble_eq_true rfl) h43b (nar_ra _ _) (fit_ra _ _) ?_
      exact r_areturn (M := m_J2_grow_2) (pc := 44) dJ2_grow_2_44 rfl (by simp) H
theorem e_J2_grow_2 {E : pw_E} {d : Nat} {w : pw_W} {Post : pw_R → pw_W → Prop} (v0 : Option Nat) (v1 : Int32) (H : pw_Wp E m_J2_grow_2 d 0 [some (va_rf v0), some (.int v1), none, none] [] w Post) : pw_Cl E m_J2_grow_2 d [va_rf v0, .int v1] w Post := pw_meth (by decide) rfl (pw_e1 (pw_cat_rf _) (pw_e1 rfl (pw_e0 (n := 2)))) H
theorem s_J2_init_0 {E : pw_E} {d : Nat} {w : pw_W} {Post : pw_R → pw_W → Prop} (a0 : Nat) (v1 : Int32) (H : pw_Cl E m_J1_init d (va_rf (some a0) :: []) w (c_v (fun w1 => (if v1 ≤ 0 then (if v1 = 0 then f_str E 0 (fun x2 => f_put E w1 (some a0) 18 1 (va_rf x2) (fun w7 => Post (.inl none) w7)) else False) else f_newa w1 3 v1 (va_rf none) (fun w8 => f_put E w8 (some a0) 18 1 (va_rf (some w1.2.1)) (fun w12 => Post (.inl none) w12)))))) : pw_Wp E m_J2_init (d + 1) 0 [some (va_rf (some a0)), some (.int v1)] [] w Post := by
  refine r_aload_n (M := m_J2_init) (pc := 0) dJ2_init_0 0 rfl rfl ?_
  refine r_I (M := m_J2_init) (pc := 1) dJ2_init_1 m_J1_init k_J1_init rfl rfl q210 q211 (av := []) (dy := d) n_J1_init rfl (pw_c4 (Nat.le_of_ble_eq_true rfl)) (Nat.le_refl _) (H.mono (pw_nx_v (fun w1 H1 => ?_)))
  replace H := H1; clear H1
  refine r_iload_n (M := m_J2_init) (pc := 4) dJ2_init_4 1 rfl rfl ?_
  refine r_if_le (M := m_J2_init) (pc := 5) dJ2_init_5 19 (by decide) (fun hc => ?_) (fun hc => ?_)
  · replace H := f_it H hc
    refine r_iload_n (M := m_J2_init) (pc := 19) dJ2_init_19 1 rfl rfl ?_
    refine r_if_ne (M := m_J2_init) (pc := 20) dJ2_init_20 33 (by decide) (fun hc => ?_) (fun hc => ?_)
    · replace H := f_if H hc
      exact H.elim
    · replace H := f_it H hc
      refine r_aload_n (M := m_J2_init) (pc := 23) dJ2_init_23 0 rfl rfl ?_
      obtain ⟨x2, h3, H⟩ := H
      refine r_getstatic (M := m_J2_init) (pc := 24) dJ2_init_24 0 _ rfl q219 h3 ?_
      obtain ⟨a4, fs5, e9, h6, h6b, H⟩ := H; cases e9
      refine r_put (M := m_J2_init) (pc := 27) dJ2_init_27 "java/util/ArrayList" 18 1 _ rfl (Nat.le_of_ble_eq_true rfl) q221 (Or.inl rfl) rfl h6 (Nat.le_of_ble_eq_true rfl) h6b (nar_ra _ _) (fit_ra _ _) ?_
      refine r_goto (M := m_J2_init) (pc := 30) dJ2_init_30 60 (by decide) ?_
      exact r_return (M := m_J2_init) (pc := 60) dJ2_init_60 rfl H
  · replace H := f_if H hc
    refine r_aload_n (M := m_J2_init) (pc := 8) dJ2_init_8 0 rfl rfl ?_
    refine r_iload_n (M := m_J2_init) (pc := 9) dJ2_init_9 1 rfl rfl ?_
    obtain ⟨hn0, hnb, H⟩ := H
    refine r_anewarray (M := m_J2_init) (pc := 10) dJ2_init_10 3 "java/lang/Object" rfl (Nat.le_of_ble_eq_true rfl) (by simp) q217 hn0 (by omega) ?_
    obtain ⟨a9, fs10, e9, h11, h11b, H⟩ := H; cases e9
    refine r_put (M := m_J2_init) (pc := 13) dJ2_init_13 "java/util/ArrayList" 18 1 _ rfl (Nat.le_of_ble_eq_true rfl) q221 (Or.inl rfl) rfl h11 (Nat.le_of_ble_eq_true rfl) h11b (nar_ra _ _) (fit_ra _ _) ?_
    refine r_goto (M := m_J2_init) (pc := 16) dJ2_init_16 60 (by decide) ?_
    exact r_return (M := m_J2_init) (pc := 60) dJ2_init_60 rfl H
theorem e_J2_init {E : pw_E} {d : Nat} {w : pw_W} {Post : pw_R → pw_W → Prop} (a0 : Nat) (v1 : Int32) (H : pw_Wp E m_J2_init d 0 [some (va_rf (some a0)), some (.int v1)] [] w Post) : pw_Cl E m_J2_init d [va_rf (some a0), .int v1] w Post := pw_meth (by decide) rfl (pw_e1 (pw_cat_rf _) (pw_e1 rfl (pw_e0 (n := 0)))) H
theorem s_J2_init_2_0 {E : pw_E} {d : Nat} {w : pw_W} {Post : pw_R → pw_W → Prop} (a0 : Nat) (H : pw_Cl E m_J1_init d (va_rf (some a0) :: []) w (c_v (fun w1 => f_str E 1 (fun x2 => f_put E w1 (some a0) 18 1 (va_rf x2) (fun w7 => Post (.inl none) w7))))) : pw_Wp E m_J2_init_2 (d + 1) 0 [some (va_rf (some a0))] [] w Post := by
  refine r_aload_n (M := m_J2_init_2) (pc := 0) dJ2_init_2_0 0 rfl rfl ?_
  refine r_I (M := m_J2_init_2) (pc := 1) dJ2_init_2_1 m_J1_init k_J1_init rfl rfl q210 q211 (av := []) (dy := d) n_J1_init rfl (pw_c4 (Nat.le_of_ble_eq_true rfl)) (Nat.le_refl _) (H.mono (pw_nx_v (fun w1 H1 => ?_)))
  replace H := H1; clear H1
  refine r_aload_n (M := m_J2_init_2) (pc := 4) dJ2_init_2_4 0 rfl rfl ?_
  obtain ⟨x2, h3, H⟩ := H
  refine r_getstatic (M := m_J2_init_2) (pc := 5) dJ2_init_2_5 1 _ rfl q712 h3 ?_
  obtain ⟨a4, fs5, e9, h6, h6b, H⟩ := H; cases e9
  refine r_put (M := m_J2_init_2) (pc := 8) dJ2_init_2_8 "java/util/ArrayList" 18 1 _ rfl (Nat.le_of_ble_eq_true rfl) q221 (Or.inl rfl) rfl h6 (Nat.le_of_ble_eq_true rfl) h6b (nar_ra _ _) (fit_ra _ _) ?_
  exact r_return (M := m_J2_init_2) (pc := 11) dJ2_init_2_11 rfl H
theorem e_J2_init_2 {E : pw_E} {d : Nat} {w : pw_W} {Post : pw_R → pw_W → Prop} (a0 : Nat) (H : pw_Wp E m_J2_init_2 d 0 [some (va_rf (some a0))] [] w Post) : pw_Cl E m_J2_init_2 d [va_rf (some a0)] w Post := pw_meth (by decide) rfl (pw_e1 (pw_cat_rf _) (pw_e0 (n := 0))) H
theorem s_J2_isEmpty_0 {E : pw_E} {d : Nat} {w : pw_W} {Post : pw_R → pw_W → Prop} (v0 : Option Nat) (H : f_geti w v0 18 2 (fun x1 => (if x1 = 0 then Post (.inl (some (.int 1))) w else Post (.inl (some (.int 0))) w))) : pw_Wp E m_J2_isEmpty (d + 1) 0 [some (va_rf v0)] [] w Post := by
  refine r_aload_n (M := m_J2_isEmpty) (pc := 0) dJ2_isEmpty_0 0 rfl rfl ?_
  obtain ⟨a2, fs3, x1, e9, h4, h4v, H⟩ := H; cases e9
  refine r_get (M := m_J2_isEmpty) (pc := 1) dJ2_isEmpty_1 "java/util/ArrayList" 18 2 _ rfl (Nat.le_of_ble_eq_true rfl) q224 (Or.inl rfl) h4 (Nat.le_of_ble_eq_true rfl) h4v ?_
  refine r_if_ne (M := m_J2_isEmpty) (pc := 4) dJ2_isEmpty_4 11 (by decide) (fun hc => ?_) (fun hc => ?_)
  · replace H := f_if H hc
    refine r_iconst (M := m_J2_isEmpty) (pc := 11) dJ2_isEmpty_11 0 rfl ?_
    exact r_zreturn (M := m_J2_isEmpty) (pc := 12) dJ2_isEmpty_12 rfl rfl H
  · replace H := f_it H hc
    refine r_iconst (M := m_J2_isEmpty) (pc := 7) dJ2_isEmpty_7 1 rfl ?_
    refine r_goto (M := m_J2_isEmpty) (pc := 8) dJ2_isEmpty_8 12 (by decide) ?_
    exact r_zreturn (M := m_J2_isEmpty) (pc := 12) dJ2_isEmpty_12 rfl rfl H
theorem e_J2_isEmpty {E : pw_E} {d : Nat} {w : pw_W} {Post : pw_R → pw_W → Prop} (v0 : Option Nat) (H : pw_Wp E m_J2_isEmpty d 0 [some (va_rf v0)] [] w Post) : pw_Cl E m_J2_isEmpty d [va_rf v0] w Post := pw_meth (by decide) rfl (pw_e1 (pw_cat_rf _) (pw_e0 (n := 0))) H
theorem s_J2_iterator_0 {E : pw_E} {d : Nat} {w : pw_W} {Post : pw_R → pw_W → Prop} (v0 : Option Nat) (H : (fun w1 => pw_Cl E m_J15_init d (va_rf (some w.2.1) :: [va_rf v0]) w1 (c_v (fun w2 => Post (.inl (some (va_rf (some w.2.1)))) w2))) (pw_new w (19, [.int 0, .int 0, .int 0, va_rf none]) 4)) : pw_Wp E m_J2_iterator (d + 1) 0 [some (va_rf v0)] [] w Post := by
  refine r_new (M := m_J2_iterator) (pc := 0) dJ2_iterator_0 19 _ rfl (Nat.le_of_ble_eq_true rfl) q837 q838 q159 [.int 0, .int 0, .int 0, va_rf none] rfl 4 rfl ?_
  refine r_dup (M := m_J2_iterator) (pc := 3) dJ2_iterator_3 (pw_cat_rf _) ?_
  refine r_aload_n (M := m_J2_iterator) (pc := 4) dJ2_iterator_4 0 rfl rfl ?_
  refine r_I (M := m_J2_iterator) (pc := 5) dJ2_iterator_5 m_J15_init k_J15_init rfl rfl q839 q840 (av := [va_rf _]) (dy := d) n_J15_init rfl (pw_c4 (Nat.le_of_ble_eq_true rfl)) (Nat.le_refl _) (H.mono (pw_nx_v (fun w2 H1 => ?_)))
  replace H := H1; clear H1
  exact r_areturn (M := m_J2_iterator) (pc := 8) dJ2_iterator_8 rfl (by simp) H
theorem e_J2_iterator {E : pw_E} {d : Nat} {w : pw_W} {Post : pw_R → pw_W → Prop} (v0 : Option Nat) (H : pw_Wp E m_J2_iterator d 0 [some (va_rf v0)] [] w Post) : pw_Cl E m_J2_iterator d [va_rf v0] w Post := pw_meth (by decide) rfl (pw_e1 (pw_cat_rf _) (pw_e0 (n := 0))) H
theorem s_J2_set_0 {E : pw_E} {d : Nat} {w : pw_W} {Post : pw_R → pw_W → Prop} (v0 : Option Nat) (v1 : Int32) (v2 : Option Nat) (H : f_geti w v0 18 2 (fun x1 => pw_Cl E m_J19_checkIndex d [.int v1, .int x1] w (c_i (fun x6 w5 => f_V E w5 v0 18 m_J2_elementData d [.int v1] (c_r (fun o8 w7 => f_getr w7 v0 18 1 (fun x12 => f_astr E w7 x12 v1 v2 (fun w20 => Post (.inl (some (va_rf o8))) w20)))))))) : pw_Wp E m_J2_set (d + 1) 0 [some (va_rf v0), some (.int v1), some (va_rf v2), none] [] w Post := by
  refine r_iload_n (M := m_J2_set) (pc := 0) dJ2_set_0 1 rfl rfl ?_
  refine r_aload_n (M := m_J2_set) (pc := 1) dJ2_set_1 0 rfl rfl ?_
  obtain ⟨a2, fs3, x1, e9, h4, h4v, H⟩ := H; cases e9
  refine r_get (M := m_J2_set) (pc := 2) dJ2_set_2 "java/util/ArrayList" 18 2 _ rfl (Nat.le_of_ble_eq_true rfl) q224 (Or.inl rfl) h4 (Nat.le_of_ble_eq_true rfl) h4v ?_
  refine r_S (M := m_J2_set) (pc := 5) dJ2_set_5 m_J19_checkIndex k_J19_checkIndex q976 q977 (av := [.int _, .int _]) (dy := d) n_J19_checkIndex rfl (pw_c4 (Nat.le_of_ble_eq_true rfl)) (Nat.le_refl _) (H.mono (pw_nx_i (fun x6 w5 H1 => ?_)))
  replace H := H1; clear H1
  refine r_pop (M := m_J2_set) (pc := 8) dJ2_set_8 rfl ?_
  refine r_aload_n (M := m_J2_set) (pc := 9) dJ2_set_9 0 rfl rfl ?_
  refine r_iload_n (M := m_J2_set) (pc := 10) dJ2_set_10 1 rfl rfl ?_
  obtain ⟨a9, us10, e9, h11, H⟩ := H; cases e9
  refine r_V (M := m_J2_set) (pc := 11) dJ2_set_11 m_J2_elementData k_J2_elementData q980 q981 18 _ rfl q982 (av := [.int _]) (dy := d) n_J2_elementData h11 rfl (pw_c4 (Nat.le_of_ble_eq_true rfl)) (Nat.le_refl _) (H.mono (pw_nx_r (fun o8 w7 H1 => ?_)))
  replace H := H1; clear H1
  refine r_astore_n (M := m_J2_set) (pc := 14) dJ2_set_14 3 rfl (Nat.le_of_ble_eq_true rfl) (pw_pre_rf rfl) ?_
  refine r_aload_n (M := m_J2_set) (pc := 15) dJ2_set_15 0 rfl rfl ?_
  obtain ⟨a13, fs14, x12, e9, h15, h15v, H⟩ := H; cases e9
  refine r_get (M := m_J2_set) (pc := 16) dJ2_set_16 "java/util/ArrayList" 18 1 _ rfl (Nat.le_of_ble_eq_true rfl) q221 (Or.inl rfl) h15 (Nat.le_of_ble_eq_true rfl) h15v ?_
  refine r_iload_n (M := m_J2_set) (pc := 19) dJ2_set_19 1 rfl rfl ?_
  refine r_aload_n (M := m_J2_set) (pc := 20) dJ2_set_20 2 rfl rfl ?_
  obtain ⟨a16, t17, Ct17, vs18, e9, h19, h19t, h196, h19b, h190, h19l, h19o, H⟩ := H; cases e9
  refine r_aastore (M := m_J2_set) (pc := 21) dJ2_set_21 t17 Ct17 h19t h196 h19 h19b h190 h19l h19o ?_
  refine r_aload_n (M := m_J2_set) (pc := 22) dJ2_set_22 3 rfl rfl ?_
  exact r_areturn (M := m_J2_set) (pc := 23) dJ2_set_23 rfl (by simp) H
theorem e_J2_set {E : pw_E} {d : Nat} {w : pw_W} {Post : pw_R → pw_W → Prop} (v0 : Option Nat) (v1 : Int32) (v2 : Option Nat) (H : pw_Wp E m_J2_set d 0 [some (va_rf v0), some (.int v1), some (va_rf v2), none] [] w Post) : pw_Cl E m_J2_set d [va_rf v0, .int v1, va_rf v2] w Post := pw_meth (by decide) rfl (pw_e1 (pw_cat_rf _) (pw_e1 rfl (pw_e1 (pw_cat_rf _) (pw_e0 (n := 1))))) H
theorem s_J2_size_0 {E : pw_E} {d : Nat} {w : pw_W} {Post : pw_R → pw_W → Prop} (v0 : Option Nat) (H : f_geti w v0 18 2 (fun x1 => Post (.inl (some (.int x1))) w)) : pw_Wp E m_J2_size (d + 1) 0 [some (va_rf v0)] [] w Post := by
  refine r_aload_n (M := m_J2_size) (pc := 0) dJ2_size_0 0 rfl rfl ?_
  obtain ⟨a2, fs3, x1, e9, h4, h4v, H⟩ := H; cases e9
  refine r_get (M := m_J2_size) (pc := 1) dJ2_size_1 "java/util/ArrayList" 18 2 _ rfl (Nat.le_of_ble_eq_true rfl) q224 (Or.inl rfl) h4 (Nat.le_of_ble_eq_true rfl) h4v ?_
  exact r_ireturn (M := m_J2_size) (pc := 4) dJ2_size_4 rfl H
theorem e_J2_size {E : pw_E} {d : Nat} {w : pw_W} {Post : pw_R → pw_W → Prop} (v0 : Option Nat) (H : pw_Wp E m_J2_size d 0 [some (va_rf v0)] [] w Post) : pw_Cl E m_J2_size d [va_rf v0] w Post := pw_meth (by decide) rfl (pw_e1 (pw_cat_rf _) (pw_e0 (n := 0))) H
theorem s_J2_toArray_0 {E : pw_E} {d : Nat} {w : pw_W} {Post : pw_R → pw_W → Prop} (v0 : Option Nat) (H : f_getr w v0 18 1 (fun x1 => f_geti w v0 18 2 (fun x5 => pw_Cl E m_J10_copyOf_2 d [va_rf x1, .int x5] w (c_r (fun o10 w9 => Post (.inl (some (va_rf o10))) w9))))) : pw_Wp E m_J2_toArray (d + 1) 0 [some (va_rf v0)] [] w Post := by
  refine r_aload_n (M := m_J2_toArray) (pc := 0) dJ2_toArray_0 0 rfl rfl ?_
  obtain ⟨a2, fs3, x1, e9, h4, h4v, H⟩ := H; cases e9
  refine r_get (M := m_J2_toArray) (pc := 1) dJ2_toArray_1 "java/util/ArrayList" 18 1 _ rfl (Nat.le_of_ble_eq_true rfl) q221 (Or.inl rfl) h4 (Nat.le_of_ble_eq_true rfl) h4v ?_
  refine r_aload_n (M := m_J2_toArray) (pc := 4) dJ2_toArray_4 0 rfl rfl ?_
  obtain ⟨a6, fs7, x5, e9, h8, h8v, H⟩ := H; cases e9
  refine r_get (M := m_J2_toArray) (pc := 5) dJ2_toArray_5 "java/util/ArrayList" 18 2 _ rfl (Nat.le_of_ble_eq_true rfl) q224 (Or.inl rfl) h8 (Nat.le_of_ble_eq_true rfl) h8v ?_
  refine r_S (M := m_J2_toArray) (pc := 8) dJ2_toArray_8 m_J10_copyOf_2 k_J10_copyOf_2 q782 q783 (av := [va_rf _, .int _]) (dy := d) n_J10_copyOf_2 rfl (pw_c4 (Nat.le_of_ble_eq_true rfl)) (Nat.le_refl _) (H.mono (pw_nx_r (fun o10 w9 H1 => ?_)))
  replace H := H1; clear H1
  exact r_areturn (M := m_J2_toArray) (pc := 11) dJ2_toArray_11 rfl (by simp) H
theorem e_J2_toArray {E : pw_E} {d : Nat} {w : pw_W} {Post : pw_R → pw_W → Prop} (v0 : Option Nat) (H : pw_Wp E m_J2_toArray d 0 [some (va_rf v0)] [] w Post) : pw_Cl E m_J2_toArray d [va_rf v0] w Post := pw_meth (by decide) rfl (pw_e1 (pw_cat_rf _) (pw_e0 (n := 0))) H
theorem s_J30_init_0 {E : pw_E} {d : Nat} {w : pw_W} {Post : pw_R → pw_W → Prop} (a0 : Nat) (H : pw_Cl E m_J0_init d (va_rf (some a0) :: []) w (c_v (fun w1 => Post (.inl none) w1))) : pw_Wp E m_J30_init (d + 1) 0 [some (va_rf (some a0))] [] w Post := by
  refine r_aload_n (M := m_J30_init) (pc := 0) dJ30_init_0 0 rfl rfl ?_
  refine r_I (M := m_J30_init) (pc := 1) dJ30_init_1 m_J0_init k_J0_init rfl rfl q2203 q214 (av := []) (dy := d) n_J0_init rfl (pw_c4 (Nat.le_of_ble_eq_true rfl)) (Nat.le_refl _) (H.mono (pw_nx_v (fun w1 H1 => ?_)))
  replace H := H1; clear H1
  exact r_return (M := m_J30_init) (pc := 4) dJ30_init_4 rfl H
theorem e_J30_init {E : pw_E} {d : Nat} {w : pw_W} {Post : pw_R → pw_W → Prop} (a0 : Nat) (H : pw_Wp E m_J30_init d 0 [some (va_rf (some a0))] [] w Post) : pw_Cl E m_J30_init d [va_rf (some a0)] w Post := pw_meth (by decide) rfl (pw_e1 (pw_cat_rf _) (pw_e0 (n := 0))) H
theorem s_J31_add_0 {E : pw_E} {d : Nat} {w : pw_W} {Post : pw_R → pw_W → Prop} (v0 : Option Nat) (v1 : Option Nat) (H : f_V E w v0 27 m_J31_offer d [va_rf v1] (c_z (fun b2 w1 => Post (.inl (some (.int (bI b2)))) w1))) : pw_Wp E m_J31_add (d + 1) 0 [some (va_rf v0), some (va_rf v1)] [] w Post := by
  refine r_aload_n (M := m_J31_add) (pc := 0) dJ31_add_0 0 rfl rfl ?_
  refine r_aload_n (M := m_J31_add) (pc := 1) dJ31_add_1 1 rfl rfl ?_
  obtain ⟨a3, us4, e9, h5, H⟩ := H; cases e9
  refine r_V (M := m_J31_add) (pc := 2) dJ31_add_2 m_J31_offer k_J31_offer q2246 q2247 27 _ rfl q2248 (av := [va_rf _]) (dy := d) n_J31_offer h5 rfl (pw_c4 (Nat.le_of_ble_eq_true rfl)) (Nat.le_refl _) (H.mono (pw_nx_z (fun b2 w1 H1 => ?_)))
  replace H := H1; clear H1
  exact r_zreturn (M := m_J31_add) (pc := 5) dJ31_add_5 rfl (nar_bI _) H
theorem e_J31_add {E : pw_E} {d : Nat} {w : pw_W} {Post : pw_R → pw_W → Prop} (v0 : Option Nat) (v1 : Option Nat) (H : pw_Wp E m_J31_add d 0 [some (va_rf v0), some (va_rf v1)] [] w Post) : pw_Cl E m_J31_add d [va_rf v0, va_rf v1] w Post := pw_meth (by decide) rfl (pw_e1 (pw_cat_rf _) (pw_e1 (pw_cat_rf _) (pw_e0 (n := 0)))) H
theorem s_J31_grow_0 {E : pw_E} {d : Nat} {w : pw_W} {Post : pw_R → pw_W → Prop} (v0 : Option Nat) (v1 : Int32) (H : f_getr w v0 27 0 (fun x1 => f_len w x1 (fun x5 => (if 64 ≤ x5 then pw_Cl E m_J8_newLength d [.int x5, .int (v1 - x5), .int (x5 >>> (1 &&& 31))] w (c_i (fun x11 w10 => f_getr w10 v0 27 0 (fun x12 => pw_Cl E m_J10_copyOf_2 d [va_rf x12, .int x11] w10 (c_r (fun o17 w16 => f_put E w16 v0 27 0 (va_rf o17) (fun w21 => Post (.inl none) w21)))))) else pw_Cl E m_J8_newLength d [.int x5, .int (v1 - x5), .int (x5 + 2)] w (c_i (fun x23 w22 => f_getr w22 v0 27 0 (fun x24 => pw_Cl E m_J10_copyOf_2 d [va_rf x24, .int x23] w22 (c_r (fun o29 w28 => f_put E w28 v0 27 0 (va_rf o29) (fun w33 => Post (.inl none) w33)))))))))) : pw_Wp E m_J31_grow (d + 1) 0 [some (va_rf v0), some (.int v1), none, none] [] w Post := by
  refine r_aload_n (M := m_J31_grow) (pc := 0) dJ31_grow_0 0 rfl rfl ?_
  obtain ⟨a2, fs3, x1, e9, h4, h4v, H⟩ := H; cases e9
  refine r_get (M := m_J31_grow) (pc := 1) dJ31_grow_1 "java/util/PriorityQueue" 27 0 _ rfl (Nat.le_of_ble_eq_true rfl) q2206 (Or.inl rfl) h4 (Nat.le_of_ble_eq_true rfl) h4v ?_
  obtain ⟨a6, t7, tyt7, vs8, e9, h9, h9t, H⟩ := H; cases e9
  refine r_alen (M := m_J31_grow) (pc := 4) dJ31_grow_4 t7 tyt7 h9t h9 ?_
  refine r_istore_n (M := m_J31_grow) (pc := 5) dJ31_grow_5 2 rfl (Nat.le_of_ble_eq_true rfl) rfl ?_
  refine r_iload_n (M := m_J31_grow) (pc := 6) dJ31_grow_6 2 rfl rfl ?_
  refine r_iload_n (M := m_J31_grow) (pc := 7) dJ31_grow_7 1 rfl rfl ?_
  refine r_iload_n (M := m_J31_grow) (pc := 8) dJ31_grow_8 2 rfl rfl ?_
  refine r_isub (M := m_J31_grow) (pc := 9) dJ31_grow_9 ?_
  refine r_iload_n (M := m_J31_grow) (pc := 10) dJ31_grow_10 2 rfl rfl ?_
  refine r_bipush (M := m_J31_grow) (pc := 11) dJ31_grow_11 64 rfl ?_
  refine r_icmp_ge (M := m_J31_grow) (pc := 13) dJ31_grow_13 22 (by decide) (fun hc => ?_) (fun hc => ?_)
  · replace H := f_it H hc
    refine r_iload_n (M := m_J31_grow) (pc := 22) dJ31_grow_22 2 rfl rfl ?_
    refine r_iconst (M := m_J31_grow) (pc := 23) dJ31_grow_23 1 rfl ?_
    refine r_ishr (M := m_J31_grow) (pc := 24) dJ31_grow_24 ?_
    refine r_S (M := m_J31_grow) (pc := 25) dJ31_grow_25 m_J8_newLength k_J8_newLength q2254 q385 (av := [.int _, .int _, .int _]) (dy := d) n_J8_newLength rfl (pw_c4 (Nat.le_of_ble_eq_true rfl)) (Nat.le_refl _) (H.mono (pw_nx_i (fun x11 w10 H1 => ?_)))
    replace H := H1; clear H1
    refine r_istore_n (M := m_J31_grow) (pc := 28) dJ31_grow_28 3 rfl (Nat.le_of_ble_eq_true rfl) rfl ?_
    refine r_aload_n (M := m_J31_grow) (pc := 29) dJ31_grow_29 0 rfl rfl ?_
    refine r_aload_n (M := m_J31_grow) (pc := 30) dJ31_grow_30 0 rfl rfl ?_
    obtain ⟨a13, fs14, x12, e9, h15, h15v, H⟩ := H; cases e9
    refine r_get (M := m_J31_grow) (pc := 31) dJ31_grow_31 "java/util/PriorityQueue" 27 0 _ rfl (Nat.le_of_ble_eq_true rfl) q2206 (Or.inl rfl) h15 (Nat.le_of_ble_eq_true rfl) h15v ?_
    refine r_iload_n (M := m_J31_grow) (pc := 34) dJ31_grow_34 3 rfl rfl ?_
    refine r_S (M := m_J31_grow) (pc := 35) dJ31_grow_35 m_J10_copyOf_2 k_J10_copyOf_2 q2255 q783 (av := [va_rf _, .int _]) (dy := d) n_J10_copyOf_2 rfl (pw_c4 (Nat.le_of_ble_eq_true rfl)) (Nat.le_refl _) (H.mono (pw_nx_r (fun o17 w16 H1 => ?_)))
    replace H := H1; clear H1
    obtain ⟨a18, fs19, e9, h20, h20b, H⟩ := H; cases e9
    refine r_put (M := m_J31_grow) (pc := 38) dJ31_grow_38 "java/util/PriorityQueue" 27 0 _ rfl (Nat.le_of_ble_eq_true rfl) q2206 (Or.inl rfl) rfl h20 (Nat.le_of_ble_eq_true rfl) h20b (nar_ra _ _) (fit_ra _ _) ?_
    exact r_return (M := m_J31_grow) (pc := 41) dJ31_grow_41 rfl H
  · replace H := f_if H hc
    refine r_iload_n (M := m_J31_grow) (pc := 16) dJ31_grow_16 2 rfl rfl ?_
    refine r_iconst (M := m_J31_grow) (pc := 17) dJ31_grow_17 2 rfl ?_
    refine r_iadd (M := m_J31_grow) (pc := 18) dJ31_grow_18 ?_
    refine r_goto (M := m_J31_grow) (pc := 19) dJ31_grow_19 25 (by decide) ?_
    refine r_S (M := m_J31_grow) (pc := 25) dJ31_grow_25 m_J8_newLength k_J8_newLength q2254 q385 (av := [.int _, .int _, .int _]) (dy := d) n_J8_newLength rfl (pw_c4 (Nat.le_of_ble_eq_true rfl)) (Nat.le_refl _) (H.mono (pw_nx_i (fun x23 w22 H1 => ?_)))
    replace H := H1; clear H1
    refine r_istore_n (M := m_J31_grow) (pc := 28) dJ31_grow_28 3 rfl (Nat.le_of_ble_eq_true rfl) rfl ?_
    refine r_aload_n (M := m_J31_grow) (pc := 29) dJ31_grow_29 0 rfl rfl ?_
    refine r_aload_n (M := m_J31_grow) (pc := 30) dJ31_grow_30 0 rfl rfl ?_
    obtain ⟨a25, fs26, x24, e9, h27, h27v, H⟩ := H; cases e9
    refine r_get (M := m_J31_grow) (pc := 31) dJ31_grow_31 "java/util/PriorityQueue" 27 0 _ rfl (Nat.le_of_ble_eq_true rfl) q2206 (Or.inl rfl) h27 (Nat.le_of_ble_eq_true rfl) h27v ?_
    refine r_iload_n (M := m_J31_grow) (pc := 34) dJ31_grow_34 3 rfl rfl ?_
    refine r_S (M := m_J31_grow) (pc := 35) dJ31_grow_35 m_J10_copyOf_2 k_J10_copyOf_2 q2255 q783 (av := [va_rf _, .int _]) (dy := d) n_J10_copyOf_2 rfl (pw_c4 (Nat.le_of_ble_eq_true rfl)) (Nat.le_refl _) (H.mono (pw_nx_r (fun o29 w28 H1 => ?_)))
    replace H := H1; clear H1
    obtain ⟨a30, fs31, e9, h32, h32b, H⟩ := H; cases e9
    refine r_put (M := m_J31_grow) (pc := 38) dJ31_grow_38 "java/util/PriorityQueue" 27 0 _ rfl (Nat.le_of_ble_eq_true rfl) q2206 (Or.inl rfl) rfl h32 (Nat.le_of_ble_eq_true rfl) h32b (nar_ra _ _) (fit_ra _ _) ?_
    exact r_return (M := m_J31_grow) (pc := 41) dJ31_grow_41 rfl H
theorem e_J31_grow {E : pw_E} {d : Nat} {w : pw_W} {Post : pw_R → pw_W → Prop} (v0 : Option Nat) (v1 : Int32) (H : pw_Wp E m_J31_grow d 0 [some (va_rf v0), some (.int v1), none, none] [] w Post) : pw_Cl E m_J31_grow d [va_rf v0, .int v1] w Post := pw_meth (by decide) rfl (pw_e1 (pw_cat_rf _) (pw_e1 rfl (pw_e0 (n := 2)))) H
theorem s_J31_init_0 {E : pw_E} {d : Nat} {w : pw_W} {Post : pw_R → pw_W → Prop} (a0 : Nat) (v1 : Option Nat) (H : pw_Cl E m_J31_init_2 d (va_rf (some a0) :: [.int 11, va_rf v1]) w (c_v (fun w1 => Post (.inl none) w1))) : pw_Wp E m_J31_init (d + 1) 0 [some (va_rf (some a0)), some (va_rf v1)] [] w Post := by
  refine r_aload_n (M := m_J31_init) (pc := 0) dJ31_init_0 0 rfl rfl ?_
  refine r_bipush (M := m_J31_init) (pc := 1) dJ31_init_1 11 rfl ?_
  refine r_aload_n (M := m_J31_init) (pc := 3) dJ31_init_3 1 rfl rfl ?_
  refine r_I (M := m_J31_init) (pc := 4) dJ31_init_4 m_J31_init_2 k_J31_init_2 rfl rfl q2197 q2198 (av := [.int _, va_rf _]) (dy := d) n_J31_init_2 rfl (pw_c4 (Nat.le_of_ble_eq_true rfl)) (Nat.le_refl _) (H.mono (pw_nx_v (fun w1 H1 => ?_)))
  replace H := H1; clear H1
  exact r_return (M := m_J31_init) (pc := 7) dJ31_init_7 rfl H
theorem e_J31_init {E : pw_E} {d : Nat} {w : pw_W} {Post : pw_R → pw_W → Prop} (a0 : Nat) (v1 : Option Nat) (H : pw_Wp E m_J31_init d 0 [some (va_rf (some a0)), some (va_rf v1)] [] w Post) : pw_Cl E m_J31_init d [va_rf (some a0), va_rf v1] w Post := pw_meth (by decide) rfl (pw_e1 (pw_cat_rf _) (pw_e1 (pw_cat_rf _) (pw_e0 (n := 0)))) H
theorem s_J31_init_2_0 {E : pw_E} {d : Nat} {w : pw_W} {Post : pw_R → pw_W → Prop} (a0 : Nat) (v1 : Int32) (v2 : Option Nat) (H : pw_Cl E m_J30_init d (va_rf (some a0) :: []) w (c_v (fun w1 => (if 1 ≤ v1 then f_newa w1 3 v1 (va_rf none) (fun w2 => f_put E w2 (some a0) 27 0 (va_rf (some w1.2.1)) (fun w6 => f_put E w6 (some a0) 27 2 (va_rf v2) (fun w10 => Post (.inl none) w10))) else False)))) : pw_Wp E m_J31_init_2 (d + 1) 0 [some (va_rf (some a0)), some (.int v1), some (va_rf v2)] [] w Post := by
  refine r_aload_n (M := m_J31_init_2) (pc := 0) dJ31_init_2_0 0 rfl rfl ?_
  refine r_I (M := m_J31_init_2) (pc := 1) dJ31_init_2_1 m_J30_init k_J30_init rfl rfl q2200 q2201 (av := []) (dy := d) n_J30_init rfl (pw_c4 (Nat.le_of_ble_eq_true rfl)) (Nat.le_refl _) (H.mono (pw_nx_v (fun w1 H1 => ?_)))
  replace H := H1; clear H1
  refine r_iload_n (M := m_J31_init_2) (pc := 4) dJ31_init_2_4 1 rfl rfl ?_
  refine r_iconst (M := m_J31_init_2) (pc := 5) dJ31_init_2_5 1 rfl ?_
  refine r_icmp_ge (M := m_J31_init_2) (pc := 6) dJ31_init_2_6 17 (by decide) (fun hc => ?_) (fun hc => ?_)
  · replace H := f_it H hc
    refine r_aload_n (M := m_J31_init_2) (pc := 17) dJ31_init_2_17 0 rfl rfl ?_
    refine r_iload_n (M := m_J31_init_2) (pc := 18) dJ31_init_2_18 1 rfl rfl ?_
    obtain ⟨hn0, hnb, H⟩ := H
    refine r_anewarray (M := m_J31_init_2) (pc := 19) dJ31_init_2_19 3 "java/lang/Object" rfl (Nat.le_of_ble_eq_true rfl) (by simp) q2204 hn0 (by omega) ?_
    obtain ⟨a3, fs4, e9, h5, h5b, H⟩ := H; cases e9
    refine r_put (M := m_J31_init_2) (pc := 22) dJ31_init_2_22 "java/util/PriorityQueue" 27 0 _ rfl (Nat.le_of_ble_eq_true rfl) q2206 (Or.inl rfl) rfl h5 (Nat.le_of_ble_eq_true rfl) h5b (nar_ra _ _) (fit_ra _ _) ?_
    refine r_aload_n (M := m_J31_init_2) (pc := 25) dJ31_init_2_25 0 rfl rfl ?_
    refine r_aload_n (M := m_J31_init_2) (pc := 26) dJ31_init_2_26 2 rfl rfl ?_
    obtain ⟨a7, fs8, e9, h9, h9b, H⟩ := H; cases e9
    refine r_putF (M := m_J31_init_2) (pc := 27) dJ31_init_2_27 "java/util/PriorityQueue" 27 2 _ rfl (Nat.le_of_ble_eq_true rfl) q2209 (Or.inl rfl) rfl rfl rfl h9 (Nat.le_of_ble_eq_true rfl) h9b (nar_ro _ _) (fit_ro _ _) ?_
    exact r_return (M := m_J31_init_2) (pc := 30) dJ31_init_2_30 rfl H
  · replace H := f_if H hc
    exact H.elim
theorem e_J31_init_2 {E : pw_E} {d : Nat} {w : pw_W} {Post : pw_R → pw_W → Prop} (a0 : Nat) (v1 : Int32) (v2 : Option Nat) (H : pw_Wp E m_J31_init_2 d 0 [some (va_rf (some a0)), some (.int v1), some (va_rf v2)] [] w Post) : pw_Cl E m_J31_init_2 d [va_rf (some a0), .int v1, va_rf v2] w Post := pw_meth (by decide) rfl (pw_e1 (pw_cat_rf _) (pw_e1 rfl (pw_e1 (pw_cat_rf _) (pw_e0 (n := 0))))) H
theorem s_J31_iterator_0 {E : pw_E} {d : Nat} {w : pw_W} {Post : pw_R → pw_W → Prop} (v0 : Option Nat) (H : False) : pw_Wp E m_J31_iterator (d + 1) 0 [some (va_rf v0)] [] w Post := by
  exact H.elim
theorem e_J31_iterator {E : pw_E} {d : Nat} {w : pw_W} {Post : pw_R → pw_W → Prop} (v0 : Option Nat) (H : pw_Wp E m_J31_iterator d 0 [some (va_rf v0)] [] w Post) : pw_Cl E m_J31_iterator d [va_rf v0] w Post := pw_meth (by decide) rfl (pw_e1 (pw_cat_rf _) (pw_e0 (n := 0))) H
theorem s_J31_offer_0 {E : pw_E} {d : Nat} {w : pw_W} {Post : pw_R → pw_W → Prop} (v0 : Option Nat) (v1 : Option Nat) (H : (if v1 = none then False else f_geti w v0 27 3 (fun x1 => f_put E w v0 27 3 (.int (x1 + 1)) (fun w8 => f_geti w8 v0 27 1 (fun x9 => f_getr w8 v0 27 0 (fun x13 => f_len w8 x13 (fun x17 => (if x9 < x17 then f_V E w8 v0 27 m_J31_siftUp d [.int x9, va_rf v1] (c_v (fun w22 => f_put E w22 v0 27 1 (.int (x9 + 1)) (fun w29 => Post (.inl (some (.int 1))) w29))) else f_V E w8 v0 27 m_J31_grow d [.int (x9 + 1)] (c_v (fun w30 => f_V E w30 v0 27 m_J31_siftUp d [.int x9, va_rf v1] (c_v (fun w34 => f_put E w34 v0 27 1 (.int (x9 + 1)) (fun w41 => Post (.inl (some (.int 1))) w41))))))))))))) : pw_Wp E m_J31_offer (d + 1) 0 [some (va_rf v0), some (va_rf v1), none] [] w Post := by
  refine r_aload_n (M := m_J31_offer) (pc := 0) dJ31_offer_0 1 rfl rfl ?_
  refine r_ifnonnull (M := m_J31_offer) (pc := 1) dJ31_offer_1 12 (by decide) (fun hc => ?_) (fun hc => ?_)
  · replace H := f_if H hc
    refine r_aload_n (M := m_J31_offer) (pc := 12) dJ31_offer_12 0 rfl rfl ?_
    refine r_dup (M := m_J31_offer) (pc := 13) dJ31_offer_13 (pw_cat_rf _) ?_
    obtain ⟨a2, fs3, x1, e9, h4, h4v, H⟩ := H; cases e9
    refine r_get (M := m_J31_offer) (pc := 14) dJ31_offer_14 "java/util/PriorityQueue" 27 3 _ rfl (Nat.le_of_ble_eq_true rfl) q2211 (Or.inl rfl) h4 (Nat.le_of_ble_eq_true rfl) h4v ?_
    refine r_iconst (M := m_J31_offer) (pc := 17) dJ31_offer_17 1 rfl ?_
    refine r_iadd (M := m_J31_offer) (pc := 18) dJ31_offer_18 ?_
    obtain ⟨a5, fs6, e9, h7, h7b, H⟩ := H; cases e9
    refine r_put (M := m_J31_offer) (pc := 19) dJ31_offer_19 "java/util/PriorityQueue" 27 3 _ rfl (Nat.le_of_ble_eq_true rfl) q2211 (Or.inl rfl) rfl h7 (Nat.le_of_ble_eq_true rfl) h7b rfl rfl ?_
    refine r_aload_n (M := m_J31_offer) (pc := 22) dJ31_offer_22 0 rfl rfl ?_
    obtain ⟨a10, fs11, x9, e9, h12, h12v, H⟩ := H; cases e9
    refine r_get (M := m_J31_offer) (pc := 23) dJ31_offer_23 "java/util/PriorityQueue" 27 1 _ rfl (Nat.le_of_ble_eq_true rfl) q2208 (Or.inl rfl) h12 (Nat.le_of_ble_eq_true rfl) h12v ?_
    refine r_istore_n (M := m_J31_offer) (pc := 26) dJ31_offer_26 2 rfl (Nat.le_of_ble_eq_true rfl) (pw_pre_rf rfl) ?_
    refine r_iload_n (M := m_J31_offer) (pc := 27) dJ31_offer_27 2 rfl rfl ?_
    refine r_aload_n (M := m_J31_offer) (pc := 28) dJ31_offer_28 0 rfl rfl ?_
    obtain ⟨a14, fs15, x13, e9, h16, h16v, H⟩ := H; cases e9
    refine r_get (M := m_J31_offer) (pc := 29) dJ31_offer_29 "java/util/PriorityQueue" 27 0 _ rfl (Nat.le_of_ble_eq_true rfl) q2206 (Or.inl rfl) h16 (Nat.le_of_ble_eq_true rfl) h16v ?_
    obtain ⟨a18, t19, tyt19, vs20, e9, h21, h21t, H⟩ := H; cases e9
    refine r_alen (M := m_J31_offer) (pc := 32) dJ31_offer_32 t19 tyt19 h21t h21 ?_
    refine r_icmp_lt (M := m_J31_offer) (pc := 33) dJ31_offer_33 43 (by decide) (fun hc => ?_) (fun hc => ?_)
    · replace H := f_it H hc
      refine r_aload_n (M := m_J31_offer) (pc := 43) dJ31_offer_43 0 rfl rfl ?_
      refine r_iload_n (M := m_J31_offer) (pc := 44) dJ31_offer_44 2 rfl rfl ?_
      refine r_aload_n (M := m_J31_offer) (pc := 45) dJ31_offer_45 1 rfl rfl ?_
      obtain ⟨a23, us24, e9, h25, H⟩ := H; cases e9
      refine r_V (M := m_J31_offer) (pc := 46) dJ31_offer_46 m_J31_siftUp k_J31_siftUp q2256 q2258 27 _ rfl qs34 (av := [.int _, va_rf _]) (dy := d) n_J31_siftUp h25 rfl (pw_c4 (Nat.le_of_ble_eq_true rfl)) (Nat.le_refl _) (H.mono (pw_nx_v (fun w22 H1 => ?_)))
      replace H := H1; clear H1
      refine r_aload_n (M := m_J31_offer) (pc := 49) dJ31_offer_49 0 rfl rfl ?_
      refine r_iload_n (M := m_J31_offer) (pc := 50) dJ31_offer_50 2 rfl rfl ?_
      refine r_iconst (M := m_J31_offer) (pc := 51) dJ31_offer_51 1 rfl ?_
      refine r_iadd (M := m_J31_offer) (pc := 52) dJ31_offer_52 ?_
      obtain ⟨a26, fs27, e9, h28, h28b, H⟩ := H; cases e9
      refine r_put (M := m_J31_offer) (pc := 53) dJ31_offer_53 "java/util/PriorityQueue" 27 1 _ rfl (Nat.le_of_ble_eq_true rfl) q2208 (Or.inl rfl) rfl h28 (Nat.le_of_ble_eq_true rfl) h28b rfl rfl ?_
      refine r_iconst (M := m_J31_offer) (pc := 56) dJ31_offer_56 1 rfl ?_
      exact r_zreturn (M := m_J31_offer) (pc := 57) dJ31_offer_57 rfl rfl H
    · replace H := f_if H hc
      refine r_aload_n (M := m_J31_offer) (pc := 36) dJ31_offer_36 0 rfl rfl ?_
      refine r_iload_n (M := m_J31_offer) (pc := 37) dJ31_offer_37 2 rfl rfl ?_
      refine r_iconst (M := m_J31_offer) (pc := 38) dJ31_offer_38 1 rfl ?_
      refine r_iadd (M := m_J31_offer) (pc := 39) dJ31_offer_39 ?_
      obtain ⟨a31, us32, e9, h33, H⟩ := H; cases e9
      refine r_V (M := m_J31_offer) (pc := 40) dJ31_offer_40 m_J31_grow k_J31_grow q2250 q2252 27 _ rfl qs33 (av := [.int _]) (dy := d) n_J31_grow h33 rfl (pw_c4 (Nat.le_of_ble_eq_true rfl)) (Nat.le_refl _) (H.mono (pw_nx_v (fun w30 H1 => ?_)))
      replace H := H1; clear H1
      refine r_aload_n (M := m_J31_offer) (pc := 43) dJ31_offer_43 0 rfl rfl ?_
      refine r_iload_n (M := m_J31_offer) (pc := 44) dJ31_offer_44 2 rfl rfl ?_
      refine r_aload_n (M := m_J31_offer) (pc := 45) dJ31_offer_45 1 rfl rfl ?_
      obtain ⟨a35, us36, e9, h37, H⟩ := H; cases e9
      refine r_V (M := m_J31_offer) (pc := 46) dJ31_offer_46 m_J31_siftUp k_J31_siftUp q2256 q2258 27 _ rfl qs34 (av := [.int _, va_rf _]) (dy := d) n_J31_siftUp h37 rfl (pw_c4 (Nat.le_of_ble_eq_true rfl)) (Nat.le_refl _) (H.mono (pw_nx_v (fun w34 H1 => ?_)))
      replace H := H1; clear H1
      refine r_aload_n (M := m_J31_offer) (pc := 49) dJ31_offer_49 0 rfl rfl ?_
      refine r_iload_n (M := m_J31_offer) (pc := 50) dJ31_offer_50 2 rfl rfl ?_
      refine r_iconst (M := m_J31_offer) (pc := 51) dJ31_offer_51 1 rfl ?_
      refine r_iadd (M := m_J31_offer) (pc := 52) dJ31_offer_52 ?_
      obtain ⟨a38, fs39, e9, h40, h40b, H⟩ := H; cases e9
      refine r_put (M := m_J31_offer) (pc := 53) dJ31_offer_53 "java/util/PriorityQueue" 27 1 _ rfl (Nat.le_of_ble_eq_true rfl) q2208 (Or.inl rfl) rfl h40 (Nat.le_of_ble_eq_true rfl) h40b rfl rfl ?_
      refine r_iconst (M := m_J31_offer) (pc := 56) dJ31_offer_56 1 rfl ?_
      exact r_zreturn (M := m_J31_offer) (pc := 57) dJ31_offer_57 rfl rfl H
  · replace H := f_it H hc
    exact H.elim
theorem e_J31_offer {E : pw_E} {d : Nat} {w : pw_W} {Post : pw_R → pw_W → Prop} (v0 : Option Nat) (v1 : Option Nat) (H : pw_Wp E m_J31_offer d 0 [some (va_rf v0), some (va_rf v1), none] [] w Post) : pw_Cl E m_J31_offer d [va_rf v0, va_rf v1] w Post := pw_meth (by decide) rfl (pw_e1 (pw_cat_rf _) (pw_e1 (pw_cat_rf _) (pw_e0 (n := 1)))) H
theorem s_J31_poll_0 {E : pw_E} {d : Nat} {w : pw_W} {Post : pw_R → pw_W → Prop} (v0 : Option Nat) (H : f_getr w v0 27 0 (fun x1 => f_aldr w x1 0 (fun x5 => (if x5 = none then Post (.inl (some (va_rf x5))) w else f_geti w v0 27 3 (fun x10 => f_put E w v0 27 3 (.int (x10 + 1)) (fun w17 => f_geti w17 v0 27 1 (fun x18 => f_put E w17 v0 27 1 (.int (x18 - 1)) (fun w25 => f_aldr w25 x1 (x18 - 1) (fun x26 => f_astr E w25 x1 (x18 - 1) none (fun w35 => (if (x18 - 1) ≤ 0 then Post (.inl (some (va_rf x5))) w35 else f_getr w35 v0 27 2 (fun x36 => (if x36 = none then pw_Cl E m_J31_siftDownComparable d [.int 0, va_rf x26, va_rf x1, .int (x18 - 1)] w35 (c_v (fun w41 => Post (.inl (some (va_rf x5))) w41)) else pw_Cl E m_J31_siftDownUsingComparator d [.int 0, va_rf x26, va_rf x1, .int (x18 - 1), va_rf x36] w35 (c_v (fun w40 => Post (.inl (some (va_rf x5))) w40))))))))))))))) : pw_Wp E m_J31_poll (d + 1) 0 [some (va_rf v0), none, none, none, none, none] [] w Post := by
  refine r_aload_n (M := m_J31_poll) (pc := 0) dJ31_poll_0 0 rfl rfl ?_
  obtain ⟨a2, fs3, x1, e9, h4, h4v, H⟩ := H; cases e9
  refine r_get (M := m_J31_poll) (pc := 1) dJ31_poll_1 "java/util/PriorityQueue" 27 0 _ rfl (Nat.le_of_ble_eq_true rfl) q2206 (Or.inl rfl) h4 (Nat.le_of_ble_eq_true rfl) h4v ?_
  refine r_dup (M := m_J31_poll) (pc := 4) dJ31_poll_4 (pw_cat_rf _) ?_
  refine r_astore_n (M := m_J31_poll) (pc := 5) dJ31_poll_5 1 rfl (Nat.le_of_ble_eq_true rfl) (pw_pre_rf rfl) ?_
  refine r_iconst (M := m_J31_poll) (pc := 6) dJ31_poll_6 0 rfl ?_
  obtain ⟨a6, t7, tyt7, vs8, x5, e9, h9, h9t, h9r, h90, h9v, H⟩ := H; cases e9
  refine r_aaload (M := m_J31_poll) (pc := 7) dJ31_poll_7 t7 tyt7 h9t h9r h9 h90 h9v ?_
  refine r_dup (M := m_J31_poll) (pc := 8) dJ31_poll_8 (pw_cat_rf _) ?_
  refine r_astore_n (M := m_J31_poll) (pc := 9) dJ31_poll_9 2 rfl (Nat.le_of_ble_eq_true rfl) (pw_pre_rf rfl) ?_
  refine r_ifnull (M := m_J31_poll) (pc := 10) dJ31_poll_10 79 (by decide) (fun hc => ?_) (fun hc => ?_)
  · replace H := f_it H hc
    refine r_aload_n (M := m_J31_poll) (pc := 79) dJ31_poll_79 2 rfl rfl ?_
    exact r_areturn (M := m_J31_poll) (pc := 80) dJ31_poll_80 rfl (by simp) H
  · replace H := f_if H hc
    refine r_aload_n (M := m_J31_poll) (pc := 13) dJ31_poll_13 0 rfl rfl ?_
    refine r_dup (M := m_J31_poll) (pc := 14) dJ31_poll_14 (pw_cat_rf _) ?_
    obtain ⟨a11, fs12, x10, e9, h13, h13v, H⟩ := H; cases e9
    refine r_get (M := m_J31_poll) (pc := 15) dJ31_poll_15 "java/util/PriorityQueue" 27 3 _ rfl (Nat.le_of_ble_eq_true rfl) q2211 (Or.inl rfl) h13 (Nat.le_of_ble_eq_true rfl) h13v ?_
    refine r_iconst (M := m_J31_poll) (pc := 18) dJ31_poll_18 1 rfl ?_
    refine r_iadd (M := m_J31_poll) (pc := 19) dJ31_poll_19 ?_
    obtain ⟨a14, fs15, e9, h16, h16b, H⟩ := H; cases e9
    refine r_put (M := m_J31_poll) (pc := 20) dJ31_poll_20 "java/util/PriorityQueue" 27 3 _ rfl (Nat.le_of_ble_eq_true rfl) q2211 (Or.inl rfl) rfl h16 (Nat.le_of_ble_eq_true rfl) h16b rfl rfl ?_
    refine r_aload_n (M := m_J31_poll) (pc := 23) dJ31_poll_23 1 rfl rfl ?_
    refine r_aload_n (M := m_J31_poll) (pc := 24) dJ31_poll_24 0 rfl rfl ?_
    refine r_dup (M := m_J31_poll) (pc := 25) dJ31_poll_25 (pw_cat_rf _) ?_
    obtain ⟨a19, fs20, x18, e9, h21, h21v, H⟩ := H; cases e9
    refine r_get (M := m_J31_poll) (pc := 26) dJ31_poll_26 "java/util/PriorityQueue" 27 1 _ rfl (Nat.le_of_ble_eq_true rfl) q2208 (Or.inl rfl) h21 (Nat.le_of_ble_eq_true rfl) h21v ?_
    refine r_iconst (M := m_J31_poll) (pc := 29) dJ31_poll_29 1 rfl ?_
    refine r_isub (M := m_J31_poll) (pc := 30) dJ31_poll_30 ?_
    refine r_dup_x1 (M := m_J31_poll) (pc := 31) dJ31_poll_31 rfl (pw_cat_rf _) ?_
    obtain ⟨a22, fs23, e9, h24, h24b, H⟩ := H; cases e9
    refine r_put (M := m_J31_poll) (pc := 32) dJ31_poll_32 "java/util/PriorityQueue" 27 1 _ rfl (Nat.le_of_ble_eq_true rfl) q2208 (Or.inl rfl) rfl h24 (Nat.le_of_ble_eq_true rfl) h24b rfl rfl ?_
    refine r_dup (M := m_J31_poll) (pc := 35) dJ31_poll_35 rfl ?_
    refine r_istore_n (M := m_J31_poll) (pc := 36) dJ31_poll_36 3 rfl (Nat.le_of_ble_eq_true rfl) (pw_pre_rf rfl) ?_
    obtain ⟨a27, t28, tyt28, vs29, x26, e9, h30, h30t, h30r, h300, h30v, H⟩ := H; cases e9
    refine r_aaload (M := m_J31_poll) (pc := 37) dJ31_poll_37 t28 tyt28 h30t h30r h30 h300 h30v ?_
    refine r_astore (M := m_J31_poll) (pc := 38) dJ31_poll_38 (Nat.le_of_ble_eq_true rfl) rfl ?_
    refine r_aload_n (M := m_J31_poll) (pc := 40) dJ31_poll_40 1 rfl rfl ?_
    refine r_iload_n (M := m_J31_poll) (pc := 41) dJ31_poll_41 3 rfl rfl ?_
    refine r_null (M := m_J31_poll) (pc := 42) dJ31_poll_42 ?_
    obtain ⟨a31, t32, Ct32, vs33, e9, h34, h34t, h346, h34b, h340, h34l, h34o, H⟩ := H; cases e9
    refine r_aastore (M := m_J31_poll) (pc := 43) dJ31_poll_43 t32 Ct32 h34t h346 h34 h34b h340 h34l h34o ?_
    refine r_iload_n (M := m_J31_poll) (pc := 44) dJ31_poll_44 3 rfl rfl ?_
    refine r_if_le (M := m_J31_poll) (pc := 45) dJ31_poll_45 79 (by decide) (fun hc => ?_) (fun hc => ?_)
    · replace H := f_it H hc
      refine r_aload_n (M := m_J31_poll) (pc := 79) dJ31_poll_79 2 rfl rfl ?_
      exact r_areturn (M := m_J31_poll) (pc := 80) dJ31_poll_80 rfl (by simp) H
    · replace H := f_if H hc
      refine r_aload_n (M := m_J31_poll) (pc := 48) dJ31_poll_48 0 rfl rfl ?_
      obtain ⟨a37, fs38, x36, e9, h39, h39v, H⟩ := H; cases e9
      refine r_get (M := m_J31_poll) (pc := 49) dJ31_poll_49 "java/util/PriorityQueue" 27 2 _ rfl (Nat.le_of_ble_eq_true rfl) q2209 (Or.inl rfl) h39 (Nat.le_of_ble_eq_true rfl) h39v ?_
      refine r_dup (M := m_J31_poll) (pc := 52) dJ31_poll_52 (pw_cat_rf _) ?_
      refine r_astore (M := m_J31_poll) (pc := 53) dJ31_poll_53 (Nat.le_of_ble_eq_true rfl) (pw_pre_rf rfl) ?_
      refine r_ifnonnull (M := m_J31_poll) (pc := 55) dJ31_poll_55 69 (by decide) (fun hc => ?_) (fun hc => ?_)
      · replace H := f_if H hc
        refine r_iconst (M := m_J31_poll) (pc := 69) dJ31_poll_69 0 rfl ?_
        refine r_aload (M := m_J31_poll) (pc := 70) dJ31_poll_70 rfl ?_
        refine r_aload_n (M := m_J31_poll) (pc := 72) dJ31_poll_72 1 rfl rfl ?_
        refine r_iload_n (M := m_J31_poll) (pc := 73) dJ31_poll_73 3 rfl rfl ?_
        refine r_aload (M := m_J31_poll) (pc := 74) dJ31_poll_74 rfl ?_
        refine r_S (M := m_J31_poll) (pc := 76) dJ31_poll_76 m_J31_siftDownUsingComparator k_J31_siftDownUsingComparator q2285 q2286 (av := [.int _, va_rf _, va_rf _, .int _, va_rf _]) (dy := d) n_J31_siftDownUsingComparator rfl (pw_c4 (Nat.le_of_ble_eq_true rfl)) (Nat.le_refl _) (H.mono (pw_nx_v (fun w40 H1 => ?_)))
        replace H := H1; clear H1
        refine r_aload_n (M := m_J31_poll) (pc := 79) dJ31_poll_79 2 rfl rfl ?_
        exact r_areturn (M := m_J31_poll) (pc := 80) dJ31_poll_80 rfl (by simp) H
      · replace H := f_it H hc
        refine r_iconst (M := m_J31_poll) (pc := 58) dJ31_poll_58 0 rfl ?_
        refine r_aload (M := m_J31_poll) (pc := 59) dJ31_poll_59 rfl ?_
        refine r_aload_n (M := m_J31_poll) (pc := 61) dJ31_poll_61 1 rfl rfl ?_
        refine r_iload_n (M := m_J31_poll) (pc := 62) dJ31_poll_62 3 rfl rfl ?_
        refine r_S (M := m_J31_poll) (pc := 63) dJ31_poll_63 m_J31_siftDownComparable k_J31_siftDownComparable q2282 q2283 (av := [.int _, va_rf _, va_rf _, .int _]) (dy := d) n_J31_siftDownComparable rfl (pw_c4 (Nat.le_of_ble_eq_true rfl)) (Nat.le_refl _) (H.mono (pw_nx_v (fun w41 H1 => ?_)))
        replace H := H1; clear H1
        refine r_goto (M := m_J31_poll) (pc := 66) dJ31_poll_66 79 (by decide) ?_
        refine r_aload_n (M := m_J31_poll) (pc := 79) dJ31_poll_79 2 rfl rfl ?_
        exact r_areturn (M := m_J31_poll) (pc := 80) dJ31_poll_80 rfl (by simp) H
theorem e_J31_poll {E : pw_E} {d : Nat} {w : pw_W} {Post : pw_R → pw_W → Prop} (v0 : Option Nat) (H : pw_Wp E m_J31_poll d 0 [some (va_rf v0), none, none, none, none, none] [] w Post) : pw_Cl E m_J31_poll d [va_rf v0] w Post := pw_meth (by decide) rfl (pw_e1 (pw_cat_rf _) (pw_e0 (n := 5))) H
theorem s_J31_siftDownComparable_0 {E : pw_E} {d : Nat} {w : pw_W} {Post : pw_R → pw_W → Prop} (v0 : Int32) (v1 : Option Nat) (v2 : Option Nat) (v3 : Int32) (H : f_cast w v1 "java/lang/Comparable" (pw_Wp E m_J31_siftDownComparable (d + 1) 11 [some (.int v0), none, some (va_rf v2), some (.int v3), some (va_rf v1), some (.int ((v3.toUInt32 >>> ((1 : Int32).toUInt32 &&& Int32.toUInt32 31)).toInt32)), none, none, none] [] w Post)) : pw_Wp E m_J31_siftDownComparable (d + 1) 0 [some (.int v0), some (va_rf v1), some (va_rf v2), some (.int v3), none, none, none, none, none] [] w Post := by
  refine r_aload_n (M := m_J31_siftDownComparable) (pc := 0) dJ31_siftDownComparable_0 1 rfl rfl ?_
  obtain ⟨hk, H⟩ := H
  refine r_cast (M := m_J31_siftDownComparable) (pc := 1) dJ31_siftDownComparable_1 "java/lang/Comparable" q2268 hk ?_
  refine r_astore (M := m_J31_siftDownComparable) (pc := 4) dJ31_siftDownComparable_4 (Nat.le_of_ble_eq_true rfl) rfl ?_
  refine r_iload_n (M := m_J31_siftDownComparable) (pc := 6) dJ31_siftDownComparable_6 3 rfl rfl ?_
  refine r_iconst (M := m_J31_siftDownComparable) (pc := 7) dJ31_siftDownComparable_7 1 rfl ?_
  refine r_iushr (M := m_J31_siftDownComparable) (pc := 8) dJ31_siftDownComparable_8 ?_
  refine r_istore (M := m_J31_siftDownComparable) (pc := 9) dJ31_siftDownComparable_9 (Nat.le_of_ble_eq_true rfl) (pw_pre_rf rfl) ?_
  exact pw_weak (le_s (le_n (le_s (le_s (le_s (le_s (le_n (le_n (le_n le_0))))))))) H
theorem s_J31_siftDownComparable_11 {E : pw_E} {d : Nat} {w : pw_W} {Post : pw_R → pw_W → Prop} (v0 : Int32) (v2 : Option Nat) (v3 : Int32) (v4 : Option Nat) (v5 : Int32) (H : (if v5 ≤ v0 then f_astr E w v2 v0 v4 (fun w5 => Post (.inl none) w5) else f_aldr w v2 ((v0 <<< (1 &&& 31)) + 1) (fun x6 => (if v3 ≤ (((v0 <<< (1 &&& 31)) + 1) + 1) then f_VA E w v4 [(21, m_J6_compareTo), (28, m_J21_compareTo)] d [va_rf x6] (c_i (fun x12 w11 => (if 0 < x12 then f_astr E w11 v2 v0 x6 (fun w21 => pw_Wp E m_J31_siftDownComparable (d + 1) 11 [some (.int ((v0 <<< (1 &&& 31)) + 1)), none, some (va_rf v2), some (.int v3), some (va_rf v4), some (.int v5), none, none, none] [] w21 Post) else f_astr E w11 v2 v0 v4 (fun w26 => Post (.inl none) w26)))) else f_cast w x6 "java/lang/Comparable" (f_aldr w v2 (((v0 <<< (1 &&& 31)) + 1) + 1) (fun x27 => f_VA E w x6 [(21, m_J6_compareTo), (28, m_J21_compareTo)] d [va_rf x27] (c_i (fun x33 w32 => (if x33 ≤ 0 then f_VA E w32 v4 [(21, m_J6_compareTo), (28, m_J21_compareTo)] d [va_rf x6] (c_i (fun x39 w38 => (if 0 < x39 then f_astr E w38 v2 v0 x6 (fun w48 => pw_Wp E m_J31_siftDownComparable (d + 1) 11 [some (.int ((v0 <<< (1 &&& 31)) + 1)), none, some (va_rf v2), some (.int v3), some (va_rf v4), some (.int v5), none, none, none] [] w48 Post) else f_astr E w38 v2 v0 v4 (fun w53 => Post (.inl none) w53)))) else f_aldr w32 v2 (((v0 <<< (1 &&& 31)) + 1) + 1) (fun x54 => f_VA E w32 v4 [(21, m_J6_compareTo), (28, m_J21_compareTo)] d [va_rf x54] (c_i (fun x60 w59 => (if 0 < x60 then f_astr E w59 v2 v0 x54 (fun w69 => pw_Wp E m_J31_siftDownComparable (d + 1) 11 [some (.int (((v0 <<< (1 &&& 31)) + 1) + 1)), none, some (va_rf v2), some (.int v3), some (va_rf v4), some (.int v5), none, none, none] [] w69 Post) else f_astr E w59 v2 v0 v4 (fun w74 => Post (.inl none) w74)))))))))))))) : pw_Wp E m_J31_siftDownComparable (d + 1) 11 [some (.int v0), none, some (va_rf v2), some (.int v3), some (va_rf v4), some (.int v5), none, none, none] [] w Post := by
  refine r_iload_n (M := m_J31_siftDownComparable) (pc := 11) dJ31_siftDownComparable_11 0 rfl rfl ?_
  refine r_iload (M := m_J31_siftDownComparable) (pc := 12) dJ31_siftDownComparable_12 rfl ?_
  refine r_icmp_ge (M := m_J31_siftDownComparable) (pc := 14) dJ31_siftDownComparable_14 94 (by decide) (fun hc => ?_) (fun hc => ?_)
  · replace H := f_it H hc
    refine r_aload_n (M := m_J31_siftDownComparable) (pc := 94) dJ31_siftDownComparable_94 2 rfl rfl ?_
    refine r_iload_n (M := m_J31_siftDownComparable) (pc := 95) dJ31_siftDownComparable_95 0 rfl rfl ?_
    refine r_aload (M := m_J31_siftDownComparable) (pc := 96) dJ31_siftDownComparable_96 rfl ?_
    obtain ⟨a1, t2, Ct2, vs3, e9, h4, h4t, h46, h4b, h40, h4l, h4o, H⟩ := H; cases e9
    refine r_aastore (M := m_J31_siftDownComparable) (pc := 98) dJ31_siftDownComparable_98 t2 Ct2 h4t h46 h4 h4b h40 h4l h4o ?_
    exact r_return (M := m_J31_siftDownComparable) (pc := 99) dJ31_siftDownComparable_99 rfl H
  · replace H := f_if H hc
    refine r_iload_n (M := m_J31_siftDownComparable) (pc := 17) dJ31_siftDownComparable_17 0 rfl rfl ?_
    refine r_iconst (M := m_J31_siftDownComparable) (pc := 18) dJ31_siftDownComparable_18 1 rfl ?_
    refine r_ishl (M := m_J31_siftDownComparable) (pc := 19) dJ31_siftDownComparable_19 ?_
    refine r_iconst (M := m_J31_siftDownComparable) (pc := 20) dJ31_siftDownComparable_20 1 rfl ?_
    refine r_iadd (M := m_J31_siftDownComparable) (pc := 21) dJ31_siftDownComparable_21 ?_
    refine r_istore (M := m_J31_siftDownComparable) (pc := 22) dJ31_siftDownComparable_22 (Nat.le_of_ble_eq_true rfl) rfl ?_
    refine r_aload_n (M := m_J31_siftDownComparable) (pc := 24) dJ31_siftDownComparable_24 2 rfl rfl ?_
    refine r_iload (M := m_J31_siftDownComparable) (pc := 25) dJ31_siftDownComparable_25 rfl ?_
    obtain ⟨a7, t8, tyt8, vs9, x6, e9, h10, h10t, h10r, h100, h10v, H⟩ := H; cases e9
    refine r_aaload (M := m_J31_siftDownComparable) (pc := 27) dJ31_siftDownComparable_27 t8 tyt8 h10t h10r h10 h100 h10v ?_
    refine r_astore (M := m_J31_siftDownComparable) (pc := 28) dJ31_siftDownComparable_28 (Nat.le_of_ble_eq_true rfl) rfl ?_
    refine r_iload (M := m_J31_siftDownComparable) (pc := 30) dJ31_siftDownComparable_30 rfl ?_
    refine r_iconst (M := m_J31_siftDownComparable) (pc := 32) dJ31_siftDownComparable_32 1 rfl ?_
    refine r_iadd (M := m_J31_siftDownComparable) (pc := 33) dJ31_siftDownComparable_33 ?_
    refine r_istore (M := m_J31_siftDownComparable) (pc := 34) dJ31_siftDownComparable_34 (Nat.le_of_ble_eq_true rfl) (pw_pre_rf rfl) ?_
    refine r_iload (M := m_J31_siftDownComparable) (pc := 36) dJ31_siftDownComparable_36 rfl ?_
    refine r_iload_n (M := m_J31_siftDownComparable) (pc := 38) dJ31_siftDownComparable_38 3 rfl rfl ?_
    refine r_icmp_ge (M := m_J31_siftDownComparable) (pc := 39) dJ31_siftDownComparable_39 68 (by decide) (fun hc => ?_) (fun hc => ?_)
    · replace H := f_it H hc
      refine r_aload (M := m_J31_siftDownComparable) (pc := 68) dJ31_siftDownComparable_68 rfl ?_
      refine r_aload (M := m_J31_siftDownComparable) (pc := 70) dJ31_siftDownComparable_70 rfl ?_
      obtain ⟨a13, us14, k16, M9, e9, h15, hk9, H⟩ := H; cases e9
      refine r_alt2 hk9 H (nx := pw_nx E m_J31_siftDownComparable (d + 1) 72 5 _ _ Post) (pw_nx_i (fun x12 w11 H1 => ?_)) (fun e9 H => by subst e9; exact r_F (M := m_J31_siftDownComparable) (pc := 72) dJ31_siftDownComparable_72 ⟨"java/lang/Comparable", "compareTo", "(Ljava/lang/Object;)I"⟩ m_J6_compareTo k_J6_compareTo q2270 q1461 21 _ rfl q1459 (pw_fwm 5 rfl) (av := [va_rf _]) (dy := d) (pw_nyt (n := 1) (by decide +kernel) (by decide +kernel)) h15 rfl (pw_c4 (Nat.le_of_ble_eq_true rfl)) (Nat.le_refl _) H) (fun e9 H => by subst e9; exact r_F (M := m_J31_siftDownComparable) (pc := 72) dJ31_siftDownComparable_72 ⟨"java/lang/Comparable", "compareTo", "(Ljava/lang/Object;)I"⟩ m_J21_compareTo k_J21_compareTo q2270 q1448 28 _ rfl q1446 (pw_fwm 6 rfl) (av := [va_rf _]) (dy := d) (pw_nyt (n := 1) (by decide +kernel) (by decide +kernel)) h15 rfl (pw_c4 (Nat.le_of_ble_eq_true rfl)) (Nat.le_refl _) H)
      replace H := H1; clear H1
      refine r_if_gt (M := m_J31_siftDownComparable) (pc := 77) dJ31_siftDownComparable_77 83 (by decide) (fun hc => ?_) (fun hc => ?_)
      · replace H := f_it H hc
        refine r_aload_n (M := m_J31_siftDownComparable) (pc := 83) dJ31_siftDownComparable_83 2 rfl rfl ?_
        refine r_iload_n (M := m_J31_siftDownComparable) (pc := 84) dJ31_siftDownComparable_84 0 rfl rfl ?_
        refine r_aload (M := m_J31_siftDownComparable) (pc := 85) dJ31_siftDownComparable_85 rfl ?_
        obtain ⟨a17, t18, Ct18, vs19, e9, h20, h20t, h206, h20b, h200, h20l, h20o, H⟩ := H; cases e9
        refine r_aastore (M := m_J31_siftDownComparable) (pc := 87) dJ31_siftDownComparable_87 t18 Ct18 h20t h206 h20 h20b h200 h20l h20o ?_
        refine r_iload (M := m_J31_siftDownComparable) (pc := 88) dJ31_siftDownComparable_88 rfl ?_
        refine r_istore_n (M := m_J31_siftDownComparable) (pc := 90) dJ31_siftDownComparable_90 0 rfl (Nat.le_of_ble_eq_true rfl) rfl ?_
        refine r_goto (M := m_J31_siftDownComparable) (pc := 91) dJ31_siftDownComparable_91 11 (by decide) ?_
        exact pw_weak (le_s (le_n (le_s (le_s (le_s (le_s (le_n (le_n (le_n le_0))))))))) H
      · replace H := f_if H hc
        refine r_goto (M := m_J31_siftDownComparable) (pc := 80) dJ31_siftDownComparable_80 94 (by decide) ?_
        refine r_aload_n (M := m_J31_siftDownComparable) (pc := 94) dJ31_siftDownComparable_94 2 rfl rfl ?_
        refine r_iload_n (M := m_J31_siftDownComparable) (pc := 95) dJ31_siftDownComparable_95 0 rfl rfl ?_
        refine r_aload (M := m_J31_siftDownComparable) (pc := 96) dJ31_siftDownComparable_96 rfl ?_
        obtain ⟨a22, t23, Ct23, vs24, e9, h25, h25t, h256, h25b, h250, h25l, h25o, H⟩ := H; cases e9
        refine r_aastore (M := m_J31_siftDownComparable) (pc := 98) dJ31_siftDownComparable_98 t23 Ct23 h25t h256 h25 h25b h250 h25l h25o ?_
        exact r_return (M := m_J31_siftDownComparable) (pc := 99) dJ31_siftDownComparable_99 rfl H
    · replace H := f_if H hc
      refine r_aload (M := m_J31_siftDownComparable) (pc := 42) dJ31_siftDownComparable_42 rfl ?_
      obtain ⟨hk, H⟩ := H
      refine r_cast (M := m_J31_siftDownComparable) (pc := 44) dJ31_siftDownComparable_44 "java/lang/Comparable" q2268 hk ?_
      refine r_aload_n (M := m_J31_siftDownComparable) (pc := 47) dJ31_siftDownComparable_47 2 rfl rfl ?_
      refine r_iload (M := m_J31_siftDownComparable) (pc := 48) dJ31_siftDownComparable_48 rfl ?_
      obtain ⟨a28, t29, tyt29, vs30, x27, e9, h31, h31t, h31r, h310, h31v, H⟩ := H; cases e9
      refine r_aaload (M := m_J31_siftDownComparable) (pc := 50) dJ31_siftDownComparable_50 t29 tyt29 h31t h31r h31 h310 h31v ?_
      obtain ⟨a34, us35, k37, M9, e9, h36, hk9, H⟩ := H; cases e9
      refine r_alt2 hk9 H (nx := pw_nx E m_J31_siftDownComparable (d + 1) 51 5 _ _ Post) (pw_nx_i (fun x33 w32 H1 => ?_)) (fun e9 H => by subst e9; exact r_F (M := m_J31_siftDownComparable) (pc := 51) dJ31_siftDownComparable_51 ⟨"java/lang/Comparable", "compareTo", "(Ljava/lang/Object;)I"⟩ m_J6_compareTo k_J6_compareTo q2270 q1461 21 _ rfl q1459 (pw_fwm 5 rfl) (av := [va_rf _]) (dy := d) (pw_nyt (n := 1) (by decide +kernel) (by decide +kernel)) h36 rfl (pw_c4 (Nat.le_of_ble_eq_true rfl)) (Nat.le_refl _) H) (fun e9 H => by subst e9; exact r_F (M := m_J31_siftDownComparable) (pc := 51) dJ31_siftDownComparable_51 ⟨"java/lang/Comparable", "compareTo", "(Ljava/lang/Object;)I"⟩ m_J21_compareTo k_J21_compareTo q2270 q1448 28 _ rfl q1446 (pw_fwm 6 rfl) (av := [va_rf _]) (dy := d) (pw_nyt (n := 1) (by decide +kernel) (by decide +kernel)) h36 rfl (pw_c4 (Nat.le_of_ble_eq_true rfl)) (Nat.le_refl _) H)
      replace H := H1; clear H1
      refine r_if_le (M := m_J31_siftDownComparable) (pc := 56) dJ31_siftDownComparable_56 68 (by decide) (fun hc => ?_) (fun hc => ?_)
      · replace H := f_it H hc
        refine r_aload (M := m_J31_siftDownComparable) (pc := 68) dJ31_siftDownComparable_68 rfl ?_
        refine r_aload (M := m_J31_siftDownComparable) (pc := 70) dJ31_siftDownComparable_70 rfl ?_
        obtain ⟨a40, us41, k43, M9, e9, h42, hk9, H⟩ := H; cases e9
        refine r_alt2 hk9 H (nx := pw_nx E m_J31_siftDownComparable (d + 1) 72 5 _ _ Post) (pw_nx_i (fun x39 w38 H1 => ?_)) (fun e9 H => by subst e9; exact r_F (M := m_J31_siftDownComparable) (pc := 72) dJ31_siftDownComparable_72 ⟨"java/lang/Comparable", "compareTo", "(Ljava/lang/Object;)I"⟩ m_J6_compareTo k_J6_compareTo q2270 q1461 21 _ rfl q1459 (pw_fwm 5 rfl) (av := [va_rf _]) (dy := d) (pw_nyt (n := 1) (by decide +kernel) (by decide +kernel)) h42 rfl (pw_c4 (Nat.le_of_ble_eq_true rfl)) (Nat.le_refl _) H) (fun e9 H => by subst e9; exact r_F (M := m_J31_siftDownComparable) (pc := 72) dJ31_siftDownComparable_72 ⟨"java/lang/Comparable", "compareTo", "(Ljava/lang/Object;)I"⟩ m_J21_compareTo k_J21_compareTo q2270 q1448 28 _ rfl q1446 (pw_fwm 6 rfl) (av := [va_rf _]) (dy := d) (pw_nyt (n := 1) (by decide +kernel) (by decide +kernel)) h42 rfl (pw_c4 (Nat.le_of_ble_eq_true rfl)) (Nat.le_refl _) H)
        replace H := H1; clear H1
        refine r_if_gt (M := m_J31_siftDownComparable) (pc := 77) dJ31_siftDownComparable_77 83 (by decide) (fun hc => ?_) (fun hc => ?_)
        · replace H := f_it H hc
          refine r_aload_n (M := m_J31_siftDownComparable) (pc := 83) dJ31_siftDownComparable_83 2 rfl rfl ?_
          refine r_iload_n (M := m_J31_siftDownComparable) (pc := 84) dJ31_siftDownComparable_84 0 rfl rfl ?_
          refine r_aload (M := m_J31_siftDownComparable) (pc := 85) dJ31_siftDownComparable_85 rfl ?_
          obtain ⟨a44, t45, Ct45, vs46, e9, h47, h47t, h476, h47b, h470, h47l, h47o, H⟩ := H; cases e9
          refine r_aastore (M := m_J31_siftDownComparable) (pc := 87) dJ31_siftDownComparable_87 t45 Ct45 h47t h476 h47 h47b h470 h47l h47o ?_
          refine r_iload (M := m_J31_siftDownComparable) (pc := 88) dJ31_siftDownComparable_88 rfl ?_
          refine r_istore_n (M := m_J31_siftDownComparable) (pc := 90) dJ31_siftDownComparable_90 0 rfl (Nat.le_of_ble_eq_true rfl) rfl ?_
          refine r_goto (M := m_J31_siftDownComparable) (pc := 91) dJ31_siftDownComparable_91 11 (by decide) ?_
          exact pw_weak (le_s (le_n (le_s (le_s (le_s (le_s (le_n (le_n (le_n le_0))))))))) H
        · replace H := f_if H hc
          refine r_goto (M := m_J31_siftDownComparable) (pc := 80) dJ31_siftDownComparable_80 94 (by decide) ?_
          refine r_aload_n (M := m_J31_siftDownComparable) (pc := 94) dJ31_siftDownComparable_94 2 rfl rfl ?_
          refine r_iload_n (M := m_J31_siftDownComparable) (pc := 95) dJ31_siftDownComparable_95 0 rfl rfl ?_
          refine r_aload (M := m_J31_siftDownComparable) (pc := 96) dJ31_siftDownComparable_96 rfl ?_
          obtain ⟨a49, t50, Ct50, vs51, e9, h52, h52t, h526, h52b, h520, h52l, h52o, H⟩ := H; cases e9
          refine r_aastore (M := m_J31_siftDownComparable) (pc := 98) dJ31_siftDownComparable_98 t50 Ct50 h52t h526 h52 h52b h520 h52l h52o ?_
          exact r_return (M := m_J31_siftDownComparable) (pc := 99) dJ31_siftDownComparable_99 rfl H
      · replace H := f_if H hc
        refine r_aload_n (M := m_J31_siftDownComparable) (pc := 59) dJ31_siftDownComparable_59 2 rfl rfl ?_
        refine r_iload (M := m_J31_siftDownComparable) (pc := 60) dJ31_siftDownComparable_60 rfl ?_
        refine r_dup (M := m_J31_siftDownComparable) (pc := 62) dJ31_siftDownComparable_62 rfl ?_
        refine r_istore (M := m_J31_siftDownComparable) (pc := 63) dJ31_siftDownComparable_63 (Nat.le_of_ble_eq_true rfl) rfl ?_
        obtain ⟨a55, t56, tyt56, vs57, x54, e9, h58, h58t, h58r, h580, h58v, H⟩ := H; cases e9
        refine r_aaload (M := m_J31_siftDownComparable) (pc := 65) dJ31_siftDownComparable_65 t56 tyt56 h58t h58r h58 h580 h58v ?_
        refine r_astore (M := m_J31_siftDownComparable) (pc := 66) dJ31_siftDownComparable_66 (Nat.le_of_ble_eq_true rfl) rfl ?_
        refine r_aload (M := m_J31_siftDownComparable) (pc := 68) dJ31_siftDownComparable_68 rfl ?_
        refine r_aload (M := m_J31_siftDownComparable) (pc := 70) dJ31_siftDownComparable_70 rfl ?_
        obtain ⟨a61, us62, k64, M9, e9, h63, hk9, H⟩ := H; cases e9
        refine r_alt2 hk9 H (nx := pw_nx E m_J31_siftDownComparable (d + 1) 72 5 _ _ Post) (pw_nx_i (fun x60 w59 H1 => ?_)) (fun e9 H => by subst e9; exact r_F (M := m_J31_siftDownComparable) (pc := 72) dJ31_siftDownComparable_72 ⟨"java/lang/Comparable", "compareTo", "(Ljava/lang/Object;)I"⟩ m_J6_compareTo k_J6_compareTo q2270 q1461 21 _ rfl q1459 (pw_fwm 5 rfl) (av := [va_rf _]) (dy := d) (pw_nyt (n := 1) (by decide +kernel) (by decide +kernel)) h63 rfl (pw_c4 (Nat.le_of_ble_eq_true rfl)) (Nat.le_refl _) H) (fun e9 H => by subst e9; exact r_F (M := m_J31_siftDownComparable) (pc := 72) dJ31_siftDownComparable_72 ⟨"java/lang/Comparable", "compareTo", "(Ljava/lang/Object;)I"⟩ m_J21_compareTo k_J21_compareTo q2270 q1448 28 _ rfl q1446 (pw_fwm 6 rfl) (av := [va_rf _]) (dy := d) (pw_nyt (n := 1) (by decide +kernel) (by decide +kernel)) h63 rfl (pw_c4 (Nat.le_of_ble_eq_true rfl)) (Nat.le_refl _) H)
        replace H := H1; clear H1
        refine r_if_gt (M := m_J31_siftDownComparable) (pc := 77) dJ31_siftDownComparable_77 83 (by decide) (fun hc => ?_) (fun hc => ?_)
        · replace H := f_it H hc
          refine r_aload_n (M := m_J31_siftDownComparable) (pc := 83) dJ31_siftDownComparable_83 2 rfl rfl ?_
          refine r_iload_n (M := m_J31_siftDownComparable) (pc := 84) dJ31_siftDownComparable_84 0 rfl rfl ?_
          refine r_aload (M := m_J31_siftDownComparable) (pc := 85) dJ31_siftDownComparable_85 rfl ?_
          obtain ⟨a65, t66, Ct66, vs67, e9, h68, h68t, h686, h68b, h680, h68l, h68o, H⟩ := H; cases e9
          refine r_aastore (M := m_J31_siftDownComparable) (pc := 87) dJ31_siftDownComparable_87 t66 Ct66 h68t h686 h68 h68b h680 h68l h68o ?_
          refine r_iload (M := m_J31_siftDownComparable) (pc := 88) dJ31_siftDownComparable_88 rfl ?_
          refine r_istore_n (M := m_J31_siftDownComparable) (pc := 90) dJ31_siftDownComparable_90 0 rfl (Nat.le_of_ble_eq_true rfl) rfl ?_
          refine r_goto (M := m_J31_siftDownComparable) (pc := 91) dJ31_siftDownComparable_91 11 (by decide) ?_
          exact pw_weak (le_s (le_n (le_s (le_s (le_s (le_s (le_n (le_n (le_n le_0))))))))) H
        · replace H := f_if H hc
          refine r_goto (M := m_J31_siftDownComparable) (pc := 80) dJ31_siftDownComparable_80 94 (by decide) ?_
          refine r_aload_n (M := m_J31_siftDownComparable) (pc := 94) dJ31_siftDownComparable_94 2 rfl rfl ?_
          refine r_iload_n (M := m_J31_siftDownComparable) (pc := 95) dJ31_siftDownComparable_95 0 rfl rfl ?_
          refine r_aload (M := m_J31_siftDownComparable) (pc := 96) dJ31_siftDownComparable_96 rfl ?_
          obtain ⟨a70, t71, Ct71, vs72, e9, h73, h73t, h736, h73b, h730, h73l, h73o, H⟩ := H; cases e9
          refine r_aastore (M := m_J31_siftDownComparable) (pc := 98) dJ31_siftDownComparable_98 t71 Ct71 h73t h736 h73 h73b h730 h73l h73o ?_
          exact r_return (M := m_J31_siftDownComparable) (pc := 99) dJ31_siftDownComparable_99 rfl H
theorem e_J31_siftDownComparable {E : pw_E} {d : Nat} {w : pw_W} {Post : pw_R → pw_W → Prop} (v0 : Int32) (v1 : Option Nat) (v2 : Option Nat) (v3 : Int32) (H : pw_Wp E m_J31_siftDownComparable d 0 [some (.int v0), some (va_rf v1), some (va_rf v2), some (.int v3), none, none, none, none, none] [] w Post) : pw_Cl E m_J31_siftDownComparable d [.int v0, va_rf v1, va_rf v2, .int v3] w Post := pw_meth (by decide) rfl (pw_e1 rfl (pw_e1 (pw_cat_rf _) (pw_e1 (pw_cat_rf _) (pw_e1 rfl (pw_e0 (n := 5)))))) H
theorem s_J31_siftDownUsingComparator_0 {E : pw_E} {d : Nat} {w : pw_W} {Post : pw_R → pw_W → Prop} (v0 : Int32) (v1 : Option Nat) (v2 : Option Nat) (v3 : Int32) (v4 : Option Nat) (H : pw_Wp E m_J31_siftDownUsingComparator (d + 1) 5 [some (.int v0), some (va_rf v1), some (va_rf v2), some (.int v3), some (va_rf v4), some (.int ((v3.toUInt32 >>> ((1 : Int32).toUInt32 &&& Int32.toUInt32 31)).toInt32)), none, none, none] [] w Post) : pw_Wp E m_J31_siftDownUsingComparator (d + 1) 0 [some (.int v0), some (va_rf v1), some (va_rf v2), some (.int v3), some (va_rf v4), none, none, none, none] [] w Post := by
  refine r_iload_n (M := m_J31_siftDownUsingComparator) (pc := 0) dJ31_siftDownUsingComparator_0 3 rfl rfl ?_
  refine r_iconst (M := m_J31_siftDownUsingComparator) (pc := 1) dJ31_siftDownUsingComparator_1 1 rfl ?_
  refine r_iushr (M := m_J31_siftDownUsingComparator) (pc := 2) dJ31_siftDownUsingComparator_2 ?_
  refine r_istore (M := m_J31_siftDownUsingComparator) (pc := 3) dJ31_siftDownUsingComparator_3 (Nat.le_of_ble_eq_true rfl) (pw_pre_rf rfl) ?_
  exact pw_weak (le_s (le_s (le_s (le_s (le_s (le_s (le_n (le_n (le_n le_0))))))))) H
theorem s_J31_siftDownUsingComparator_5 {E : pw_E} {d : Nat} {w : pw_W} {Post : pw_R → pw_W → Prop} (v0 : Int32) (v1 : Option Nat) (v2 : Option Nat) (v3 : Int32) (v4 : Option Nat) (v5 : Int32) (H : (if v5 ≤ v0 then f_astr E w v2 v0 v1 (fun w5 => Post (.inl none) w5) else f_aldr w v2 ((v0 <<< (1 &&& 31)) + 1) (fun x6 => (if v3 ≤ (((v0 <<< (1 &&& 31)) + 1) + 1) then f_V E w v4 14 m_X15_compare d [va_rf v1, va_rf x6] (c_i (fun x12 w11 => (if 0 < x12 then f_astr E w11 v2 v0 x6 (fun w20 => pw_Wp E m_J31_siftDownUsingComparator (d + 1) 5 [some (.int ((v0 <<< (1 &&& 31)) + 1)), some (va_rf v1), some (va_rf v2), some (.int v3), some (va_rf v4), some (.int v5), none, none, none] [] w20 Post) else f_astr E w11 v2 v0 v1 (fun w25 => Post (.inl none) w25)))) else f_aldr w v2 (((v0 <<< (1 &&& 31)) + 1) + 1) (fun x26 => f_V E w v4 14 m_X15_compare d [va_rf x6, va_rf x26] (c_i (fun x32 w31 => (if x32 ≤ 0 then f_V E w31 v4 14 m_X15_compare d [va_rf v1, va_rf x6] (c_i (fun x37 w36 => (if 0 < x37 then f_astr E w36 v2 v0 x6 (fun w45 => pw_Wp E m_J31_siftDownUsingComparator (d + 1) 5 [some (.int ((v0 <<< (1 &&& 31)) + 1)), some (va_rf v1), some (va_rf v2), some (.int v3), some (va_rf v4), some (.int v5), none, none, none] [] w45 Post) else f_astr E w36 v2 v0 v1 (fun w50 => Post (.inl none) w50)))) else f_aldr w31 v2 (((v0 <<< (1 &&& 31)) + 1) + 1) (fun x51 => f_V E w31 v4 14 m_X15_compare d [va_rf v1, va_rf x51] (c_i (fun x57 w56 => (if 0 < x57 then f_astr E w56 v2 v0 x51 (fun w65 => pw_Wp E m_J31_siftDownUsingComparator (d + 1) 5 [some (.int (((v0 <<< (1 &&& 31)) + 1) + 1)), some (va_rf v1), some (va_rf v2), some (.int v3), some (va_rf v4), some (.int v5), none, none, none] [] w65 Post) else f_astr E w56 v2 v0 v1 (fun w70 => Post (.inl none) w70))))))))))))) : pw_Wp E m_J31_siftDownUsingComparator (d + 1) 5 [some (.int v0), some (va_rf v1), some (va_rf v2), some (.int v3), some (va_rf v4), some (.int v5), none, none, none] [] w Post := by
  refine r_iload_n (M := m_J31_siftDownUsingComparator) (pc := 5) dJ31_siftDownUsingComparator_5 0 rfl rfl ?_
  refine r_iload (M := m_J31_siftDownUsingComparator) (pc := 6) dJ31_siftDownUsingComparator_6 rfl ?_
  refine r_icmp_ge (M := m_J31_siftDownUsingComparator) (pc := 8) dJ31_siftDownUsingComparator_8 88 (by decide) (fun hc => ?_) (fun hc => ?_)
  · replace H := f_it H hc
    refine r_aload_n (M := m_J31_siftDownUsingComparator) (pc := 88) dJ31_siftDownUsingComparator_88 2 rfl rfl ?_
    refine r_iload_n (M := m_J31_siftDownUsingComparator) (pc := 89) dJ31_siftDownUsingComparator_89 0 rfl rfl ?_
    refine r_aload_n (M := m_J31_siftDownUsingComparator) (pc := 90) dJ31_siftDownUsingComparator_90 1 rfl rfl ?_
    obtain ⟨a1, t2, Ct2, vs3, e9, h4, h4t, h46, h4b, h40, h4l, h4o, H⟩ := H; cases e9
    refine r_aastore (M := m_J31_siftDownUsingComparator) (pc := 91) dJ31_siftDownUsingComparator_91 t2 Ct2 h4t h46 h4 h4b h40 h4l h4o ?_
    exact r_return (M := m_J31_siftDownUsingComparator) (pc := 92) dJ31_siftDownUsingComparator_92 rfl H
  · replace H := f_if H hc
    refine r_iload_n (M := m_J31_siftDownUsingComparator) (pc := 11) dJ31_siftDownUsingComparator_11 0 rfl rfl ?_
    refine r_iconst (M := m_J31_siftDownUsingComparator) (pc := 12) dJ31_siftDownUsingComparator_12 1 rfl ?_
    refine r_ishl (M := m_J31_siftDownUsingComparator) (pc := 13) dJ31_siftDownUsingComparator_13 ?_
    refine r_iconst (M := m_J31_siftDownUsingComparator) (pc := 14) dJ31_siftDownUsingComparator_14 1 rfl ?_
    refine r_iadd (M := m_J31_siftDownUsingComparator) (pc := 15) dJ31_siftDownUsingComparator_15 ?_
    refine r_istore (M := m_J31_siftDownUsingComparator) (pc := 16) dJ31_siftDownUsingComparator_16 (Nat.le_of_ble_eq_true rfl) rfl ?_
    refine r_aload_n (M := m_J31_siftDownUsingComparator) (pc := 18) dJ31_siftDownUsingComparator_18 2 rfl rfl ?_
    refine r_iload (M := m_J31_siftDownUsingComparator) (pc := 19) dJ31_siftDownUsingComparator_19 rfl ?_
    obtain ⟨a7, t8, tyt8, vs9, x6, e9, h10, h10t, h10r, h100, h10v, H⟩ := H; cases e9
    refine r_aaload (M := m_J31_siftDownUsingComparator) (pc := 21) dJ31_siftDownUsingComparator_21 t8 tyt8 h10t h10r h10 h100 h10v ?_
    refine r_astore (M := m_J31_siftDownUsingComparator) (pc := 22) dJ31_siftDownUsingComparator_22 (Nat.le_of_ble_eq_true rfl) rfl ?_
    refine r_iload (M := m_J31_siftDownUsingComparator) (pc := 24) dJ31_siftDownUsingComparator_24 rfl ?_
    refine r_iconst (M := m_J31_siftDownUsingComparator) (pc := 26) dJ31_siftDownUsingComparator_26 1 rfl ?_
    refine r_iadd (M := m_J31_siftDownUsingComparator) (pc := 27) dJ31_siftDownUsingComparator_27 ?_
    refine r_istore (M := m_J31_siftDownUsingComparator) (pc := 28) dJ31_siftDownUsingComparator_28 (Nat.le_of_ble_eq_true rfl) (pw_pre_rf rfl) ?_
    refine r_iload (M := m_J31_siftDownUsingComparator) (pc := 30) dJ31_siftDownUsingComparator_30 rfl ?_
    refine r_iload_n (M := m_J31_siftDownUsingComparator) (pc := 32) dJ31_siftDownUsingComparator_32 3 rfl rfl ?_
    refine r_icmp_ge (M := m_J31_siftDownUsingComparator) (pc := 33) dJ31_siftDownUsingComparator_33 61 (by decide) (fun hc => ?_) (fun hc => ?_)
    · replace H := f_it H hc
      refine r_aload (M := m_J31_siftDownUsingComparator) (pc := 61) dJ31_siftDownUsingComparator_61 rfl ?_
      refine r_aload_n (M := m_J31_siftDownUsingComparator) (pc := 63) dJ31_siftDownUsingComparator_63 1 rfl rfl ?_
      refine r_aload (M := m_J31_siftDownUsingComparator) (pc := 64) dJ31_siftDownUsingComparator_64 rfl ?_
      obtain ⟨a13, us14, e9, h15, H⟩ := H; cases e9
      refine r_F (M := m_J31_siftDownUsingComparator) (pc := 66) dJ31_siftDownUsingComparator_66 ⟨"java/util/Comparator", "compare", "(Ljava/lang/Object;Ljava/lang/Object;)I"⟩ m_X15_compare k_X15_compare q2264 q1394 14 _ rfl q1392 (pw_fwm 7 rfl) (av := [va_rf _, va_rf _]) (dy := d) (pw_nyt (n := 2) (by decide +kernel) (by decide +kernel)) h15 rfl (pw_c4 (Nat.le_of_ble_eq_true rfl)) (Nat.le_refl _) (H.mono (pw_nx_i (fun x12 w11 H1 => ?_)))
      replace H := H1; clear H1
      refine r_if_gt (M := m_J31_siftDownUsingComparator) (pc := 71) dJ31_siftDownUsingComparator_71 77 (by decide) (fun hc => ?_) (fun hc => ?_)
      · replace H := f_it H hc
        refine r_aload_n (M := m_J31_siftDownUsingComparator) (pc := 77) dJ31_siftDownUsingComparator_77 2 rfl rfl ?_
        refine r_iload_n (M := m_J31_siftDownUsingComparator) (pc := 78) dJ31_siftDownUsingComparator_78 0 rfl rfl ?_
        refine r_aload (M := m_J31_siftDownUsingComparator) (pc := 79) dJ31_siftDownUsingComparator_79 rfl ?_
        obtain ⟨a16, t17, Ct17, vs18, e9, h19, h19t, h196, h19b, h190, h19l, h19o, H⟩ := H; cases e9
        refine r_aastore (M := m_J31_siftDownUsingComparator) (pc := 81) dJ31_siftDownUsingComparator_81 t17 Ct17 h19t h196 h19 h19b h190 h19l h19o ?_
        refine r_iload (M := m_J31_siftDownUsingComparator) (pc := 82) dJ31_siftDownUsingComparator_82 rfl ?_
        refine r_istore_n (M := m_J31_siftDownUsingComparator) (pc := 84) dJ31_siftDownUsingComparator_84 0 rfl (Nat.le_of_ble_eq_true rfl) rfl ?_
        refine r_goto (M := m_J31_siftDownUsingComparator) (pc := 85) dJ31_siftDownUsingComparator_85 5 (by decide) ?_
        exact pw_weak (le_s (le_s (le_s (le_s (le_s (le_s (le_n (le_n (le_n le_0))))))))) H
      · replace H := f_if H hc
        refine r_goto (M := m_J31_siftDownUsingComparator) (pc := 74) dJ31_siftDownUsingComparator_74 88 (by decide) ?_
        refine r_aload_n (M := m_J31_siftDownUsingComparator) (pc := 88) dJ31_siftDownUsingComparator_88 2 rfl rfl ?_
        refine r_iload_n (M := m_J31_siftDownUsingComparator) (pc := 89) dJ31_siftDownUsingComparator_89 0 rfl rfl ?_
        refine r_aload_n (M := m_J31_siftDownUsingComparator) (pc := 90) dJ31_siftDownUsingComparator_90 1 rfl rfl ?_
        obtain ⟨a21, t22, Ct22, vs23, e9, h24, h24t, h246, h24b, h240, h24l, h24o, H⟩ := H; cases e9
        refine r_aastore (M := m_J31_siftDownUsingComparator) (pc := 91) dJ31_siftDownUsingComparator_91 t22 Ct22 h24t h246 h24 h24b h240 h24l h24o ?_
        exact r_return (M := m_J31_siftDownUsingComparator) (pc := 92) dJ31_siftDownUsingComparator_92 rfl H
    · replace H := f_if H hc
      refine r_aload (M := m_J31_siftDownUsingComparator) (pc := 36) dJ31_siftDownUsingComparator_36 rfl ?_
      refine r_aload (M := m_J31_siftDownUsingComparator) (pc := 38) dJ31_siftDownUsingComparator_38 rfl ?_
      refine r_aload_n (M := m_J31_siftDownUsingComparator) (pc := 40) dJ31_siftDownUsingComparator_40 2 rfl rfl ?_
      refine r_iload (M := m_J31_siftDownUsingComparator) (pc := 41) dJ31_siftDownUsingComparator_41 rfl ?_
      obtain ⟨a27, t28, tyt28, vs29, x26, e9, h30, h30t, h30r, h300, h30v, H⟩ := H; cases e9
      refine r_aaload (M := m_J31_siftDownUsingComparator) (pc := 43) dJ31_siftDownUsingComparator_43 t28 tyt28 h30t h30r h30 h300 h30v ?_
      obtain ⟨a33, us34, e9, h35, H⟩ := H; cases e9
      refine r_F (M := m_J31_siftDownUsingComparator) (pc := 44) dJ31_siftDownUsingComparator_44 ⟨"java/util/Comparator", "compare", "(Ljava/lang/Object;Ljava/lang/Object;)I"⟩ m_X15_compare k_X15_compare q2264 q1394 14 _ rfl q1392 (pw_fwm 7 rfl) (av := [va_rf _, va_rf _]) (dy := d) (pw_nyt (n := 2) (by decide +kernel) (by decide +kernel)) h35 rfl (pw_c4 (Nat.le_of_ble_eq_true rfl)) (Nat.le_refl _) (H.mono (pw_nx_i (fun x32 w31 H1 => ?_)))
      replace H := H1; clear H1
      refine r_if_le (M := m_J31_siftDownUsingComparator) (pc := 49) dJ31_siftDownUsingComparator_49 61 (by decide) (fun hc => ?_) (fun hc => ?_)
      · replace H := f_it H hc
        refine r_aload (M := m_J31_siftDownUsingComparator) (pc := 61) dJ31_siftDownUsingComparator_61 rfl ?_
        refine r_aload_n (M := m_J31_siftDownUsingComparator) (pc := 63) dJ31_siftDownUsingComparator_63 1 rfl rfl ?_
        refine r_aload (M := m_J31_siftDownUsingComparator) (pc := 64) dJ31_siftDownUsingComparator_64 rfl ?_
        obtain ⟨a38, us39, e9, h40, H⟩ := H; cases e9
        refine r_F (M := m_J31_siftDownUsingComparator) (pc := 66) dJ31_siftDownUsingComparator_66 ⟨"java/util/Comparator", "compare", "(Ljava/lang/Object;Ljava/lang/Object;)I"⟩ m_X15_compare k_X15_compare q2264 q1394 14 _ rfl q1392 (pw_fwm 7 rfl) (av := [va_rf _, va_rf _]) (dy := d) (pw_nyt (n := 2) (by decide +kernel) (by decide +kernel)) h40 rfl (pw_c4 (Nat.le_of_ble_eq_true rfl)) (Nat.le_refl _) (H.mono (pw_nx_i (fun x37 w36 H1 => ?_)))
        replace H := H1; clear H1
        refine r_if_gt (M := m_J31_siftDownUsingComparator) (pc := 71) dJ31_siftDownUsingComparator_71 77 (by decide) (fun hc => ?_) (fun hc => ?_)
        · replace H := f_it H hc
          refine r_aload_n (M := m_J31_siftDownUsingComparator) (pc := 77) dJ31_siftDownUsingComparator_77 2 rfl rfl ?_
          refine r_iload_n (M := m_J31_siftDownUsingComparator) (pc := 78) dJ31_siftDownUsingComparator_78 0 rfl rfl ?_
          refine r_aload (M := m_J31_siftDownUsingComparator) (pc := 79) dJ31_siftDownUsingComparator_79 rfl ?_
          obtain ⟨a41, t42, Ct42, vs43, e9, h44, h44t, h446, h44b, h440, h44l, h44o, H⟩ := H; cases e9
          refine r_aastore (M := m_J31_siftDownUsingComparator) (pc := 81) dJ31_siftDownUsingComparator_81 t42 Ct42 h44t h446 h44 h44b h440 h44l h44o ?_
          refine r_iload (M := m_J31_siftDownUsingComparator) (pc := 82) dJ31_siftDownUsingComparator_82 rfl ?_
          refine r_istore_n (M := m_J31_siftDownUsingComparator) (pc := 84) dJ31_siftDownUsingComparator_84 0 rfl (Nat.le_of_ble_eq_true rfl) rfl ?_
          refine r_goto (M := m_J31_siftDownUsingComparator) (pc := 85) dJ31_siftDownUsingComparator_85 5 (by decide) ?_
          exact pw_weak (le_s (le_s (le_s (le_s (le_s (le_s (le_n (le_n (le_n le_0))))))))) H
        · replace H := f_if H hc
          refine r_goto (M := m_J31_siftDownUsingComparator) (pc := 74) dJ31_siftDownUsingComparator_74 88 (by decide) ?_
          refine r_aload_n (M := m_J31_siftDownUsingComparator) (pc := 88) dJ31_siftDownUsingComparator_88 2 rfl rfl ?_
          refine r_iload_n (M := m_J31_siftDownUsingComparator) (pc := 89) dJ31_siftDownUsingComparator_89 0 rfl rfl ?_
          refine r_aload_n (M := m_J31_siftDownUsingComparator) (pc := 90) dJ31_siftDownUsingComparator_90 1 rfl rfl ?_
          obtain ⟨a46, t47, Ct47, vs48, e9, h49, h49t, h496, h49b, h490, h49l, h49o, H⟩ := H; cases e9
          refine r_aastore (M := m_J31_siftDownUsingComparator) (pc := 91) dJ31_siftDownUsingComparator_91 t47 Ct47 h49t h496 h49 h49b h490 h49l h49o ?_
          exact r_return (M := m_J31_siftDownUsingComparator) (pc := 92) dJ31_siftDownUsingComparator_92 rfl H
      · replace H := f_if H hc
        refine r_aload_n (M := m_J31_siftDownUsingComparator) (pc := 52) dJ31_siftDownUsingComparator_52 2 rfl rfl ?_
        refine r_iload (M := m_J31_siftDownUsingComparator) (pc := 53) dJ31_siftDownUsingComparator_53 rfl ?_
        refine r_dup (M := m_J31_siftDownUsingComparator) (pc := 55) dJ31_siftDownUsingComparator_55 rfl ?_
        refine r_istore (M := m_J31_siftDownUsingComparator) (pc := 56) dJ31_siftDownUsingComparator_56 (Nat.le_of_ble_eq_true rfl) rfl ?_
        obtain ⟨a52, t53, tyt53, vs54, x51, e9, h55, h55t, h55r, h550, h55v, H⟩ := H; cases e9
        refine r_aaload (M := m_J31_siftDownUsingComparator) (pc := 58) dJ31_siftDownUsingComparator_58 t53 tyt53 h55t h55r h55 h550 h55v ?_
        refine r_astore (M := m_J31_siftDownUsingComparator) (pc := 59) dJ31_siftDownUsingComparator_59 (Nat.le_of_ble_eq_true rfl) rfl ?_
        refine r_aload (M := m_J31_siftDownUsingComparator) (pc := 61) dJ31_siftDownUsingComparator_61 rfl ?_
        refine r_aload_n (M := m_J31_siftDownUsingComparator) (pc := 63) dJ31_siftDownUsingComparator_63 1 rfl rfl ?_
        refine r_aload (M := m_J31_siftDownUsingComparator) (pc := 64) dJ31_siftDownUsingComparator_64 rfl ?_
        obtain ⟨a58, us59, e9, h60, H⟩ := H; cases e9
        refine r_F (M := m_J31_siftDownUsingComparator) (pc := 66) dJ31_siftDownUsingComparator_66 ⟨"java/util/Comparator", "compare", "(Ljava/lang/Object;Ljava/lang/Object;)I"⟩ m_X15_compare k_X15_compare q2264 q1394 14 _ rfl q1392 (pw_fwm 7 rfl) (av := [va_rf _, va_rf _]) (dy := d) (pw_nyt (n := 2) (by decide +kernel) (by decide +kernel)) h60 rfl (pw_c4 (Nat.le_of_ble_eq_true rfl)) (Nat.le_refl _) (H.mono (pw_nx_i (fun x57 w56 H1 => ?_)))
        replace H := H1; clear H1
        refine r_if_gt (M := m_J31_siftDownUsingComparator) (pc := 71) dJ31_siftDownUsingComparator_71 77 (by decide) (fun hc => ?_) (fun hc => ?_)
        · replace H := f_it H hc
          refine r_aload_n (M := m_J31_siftDownUsingComparator) (pc := 77) dJ31_siftDownUsingComparator_77 2 rfl rfl ?_
          refine r_iload_n (M := m_J31_siftDownUsingComparator) (pc := 78) dJ31_siftDownUsingComparator_78 0 rfl rfl ?_
          refine r_aload (M := m_J31_siftDownUsingComparator) (pc := 79) dJ31_siftDownUsingComparator_79 rfl ?_
          obtain ⟨a61, t62, Ct62, vs63, e9, h64, h64t, h646, h64b, h640, h64l, h64o, H⟩ := H; cases e9
          refine r_aastore (M := m_J31_siftDownUsingComparator) (pc := 81) dJ31_siftDownUsingComparator_81 t62 Ct62 h64t h646 h64 h64b h640 h64l h64o ?_
          refine r_iload (M := m_J31_siftDownUsingComparator) (pc := 82) dJ31_siftDownUsingComparator_82 rfl ?_
          refine r_istore_n (M := m_J31_siftDownUsingComparator) (pc := 84) dJ31_siftDownUsingComparator_84 0 rfl (Nat.le_of_ble_eq_true rfl) rfl ?_
          refine r_goto (M := m_J31_siftDownUsingComparator) (pc := 85) dJ31_siftDownUsingComparator_85 5 (by decide) ?_
          exact pw_weak (le_s (le_s (le_s (le_s (le_s (le_s (le_n (le_n (le_n le_0))))))))) H
        · replace H := f_if H hc
          refine r_goto (M := m_J31_siftDownUsingComparator) (pc := 74) dJ31_siftDownUsingComparator_74 88 (by decide) ?_
          refine r_aload_n (M := m_J31_siftDownUsingComparator) (pc := 88) dJ31_siftDownUsingComparator_88 2 rfl rfl ?_
          refine r_iload_n (M := m_J31_siftDownUsingComparator) (pc := 89) dJ31_siftDownUsingComparator_89 0 rfl rfl ?_
          refine r_aload_n (M := m_J31_siftDownUsingComparator) (pc := 90) dJ31_siftDownUsingComparator_90 1 rfl rfl ?_
          obtain ⟨a66, t67, Ct67, vs68, e9, h69, h69t, h696, h69b, h690, h69l, h69o, H⟩ := H; cases e9
          refine r_aastore (M := m_J31_siftDownUsingComparator) (pc := 91) dJ31_siftDownUsingComparator_91 t67 Ct67 h69t h696 h69 h69b h690 h69l h69o ?_
          exact r_return (M := m_J31_siftDownUsingComparator) (pc := 92) dJ31_siftDownUsingComparator_92 rfl H
theorem e_J31_siftDownUsingComparator {E : pw_E} {d : Nat} {w : pw_W} {Post : pw_R → pw_W → Prop} (v0 : Int32) (v1 : Option Nat) (v2 : Option Nat) (v3 : Int32) (v4 : Option Nat) (H : pw_Wp E m_J31_siftDownUsingComparator d 0 [some (.int v0), some (va_rf v1), some (va_rf v2), some (.int v3), some (va_rf v4), none, none, none, none] [] w Post) : pw_Cl E m_J31_siftDownUsingComparator d [.int v0, va_rf v1, va_rf v2, .int v3, va_rf v4] w Post := pw_meth (by decide) rfl (pw_e1 rfl (pw_e1 (pw_cat_rf _) (pw_e1 (pw_cat_rf _) (pw_e1 rfl (pw_e1 (pw_cat_rf _) (pw_e0 (n := 4))))))) H
theorem s_J31_siftUp_0 {E : pw_E} {d : Nat} {w : pw_W} {Post : pw_R → pw_W → Prop} (v0 : Option Nat) (v1 : Int32) (v2 : Option Nat) (H : f_getr w v0 27 2 (fun x1 => (if x1 = none then f_getr w v0 27 0 (fun x5 => pw_Cl E m_J31_siftUpComparable d [.int v1, va_rf v2, va_rf x5] w (c_v (fun w9 => Post (.inl none) w9))) else f_getr w v0 27 0 (fun x10 => f_getr w v0 27 2 (fun x14 => pw_Cl E m_J31_siftUpUsingComparator d [.int v1, va_rf v2, va_rf x10, va_rf x14] w (c_v (fun w18 => Post (.inl none) w18))))))) : pw_Wp E m_J31_siftUp (d + 1) 0 [some (va_rf v0), some (.int v1), some (va_rf v2)] [] w Post := by
  refine r_aload_n (M := m_J31_siftUp) (pc := 0) dJ31_siftUp_0 0 rfl rfl ?_
  obtain ⟨a2, fs3, x1, e9, h4, h4v, H⟩ := H; cases e9
  refine r_get (M := m_J31_siftUp) (pc := 1) dJ31_siftUp_1 "java/util/PriorityQueue" 27 2 _ rfl (Nat.le_of_ble_eq_true rfl) q2209 (Or.inl rfl) h4 (Nat.le_of_ble_eq_true rfl) h4v ?_
  refine r_ifnull (M := m_J31_siftUp) (pc := 4) dJ31_siftUp_4 23 (by decide) (fun hc => ?_) (fun hc => ?_)
  · replace H := f_it H hc
    refine r_iload_n (M := m_J31_siftUp) (pc := 23) dJ31_siftUp_23 1 rfl rfl ?_
    refine r_aload_n (M := m_J31_siftUp) (pc := 24) dJ31_siftUp_24 2 rfl rfl ?_
    refine r_aload_n (M := m_J31_siftUp) (pc := 25) dJ31_siftUp_25 0 rfl rfl ?_
    obtain ⟨a6, fs7, x5, e9, h8, h8v, H⟩ := H; cases e9
    refine r_get (M := m_J31_siftUp) (pc := 26) dJ31_siftUp_26 "java/util/PriorityQueue" 27 0 _ rfl (Nat.le_of_ble_eq_true rfl) q2206 (Or.inl rfl) h8 (Nat.le_of_ble_eq_true rfl) h8v ?_
    refine r_S (M := m_J31_siftUp) (pc := 29) dJ31_siftUp_29 m_J31_siftUpComparable k_J31_siftUpComparable q2265 q2266 (av := [.int _, va_rf _, va_rf _]) (dy := d) n_J31_siftUpComparable rfl (pw_c4 (Nat.le_of_ble_eq_true rfl)) (Nat.le_refl _) (H.mono (pw_nx_v (fun w9 H1 => ?_)))
    replace H := H1; clear H1
    exact r_return (M := m_J31_siftUp) (pc := 32) dJ31_siftUp_32 rfl H
  · replace H := f_if H hc
    refine r_iload_n (M := m_J31_siftUp) (pc := 7) dJ31_siftUp_7 1 rfl rfl ?_
    refine r_aload_n (M := m_J31_siftUp) (pc := 8) dJ31_siftUp_8 2 rfl rfl ?_
    refine r_aload_n (M := m_J31_siftUp) (pc := 9) dJ31_siftUp_9 0 rfl rfl ?_
    obtain ⟨a11, fs12, x10, e9, h13, h13v, H⟩ := H; cases e9
    refine r_get (M := m_J31_siftUp) (pc := 10) dJ31_siftUp_10 "java/util/PriorityQueue" 27 0 _ rfl (Nat.le_of_ble_eq_true rfl) q2206 (Or.inl rfl) h13 (Nat.le_of_ble_eq_true rfl) h13v ?_
    refine r_aload_n (M := m_J31_siftUp) (pc := 13) dJ31_siftUp_13 0 rfl rfl ?_
    obtain ⟨a15, fs16, x14, e9, h17, h17v, H⟩ := H; cases e9
    refine r_get (M := m_J31_siftUp) (pc := 14) dJ31_siftUp_14 "java/util/PriorityQueue" 27 2 _ rfl (Nat.le_of_ble_eq_true rfl) q2209 (Or.inl rfl) h17 (Nat.le_of_ble_eq_true rfl) h17v ?_
    refine r_S (M := m_J31_siftUp) (pc := 17) dJ31_siftUp_17 m_J31_siftUpUsingComparator k_J31_siftUpUsingComparator q2260 q2261 (av := [.int _, va_rf _, va_rf _, va_rf _]) (dy := d) n_J31_siftUpUsingComparator rfl (pw_c4 (Nat.le_of_ble_eq_true rfl)) (Nat.le_refl _) (H.mono (pw_nx_v (fun w18 H1 => ?_)))
    replace H := H1; clear H1
    refine r_goto (M := m_J31_siftUp) (pc := 20) dJ31_siftUp_20 32 (by decide) ?_
    exact r_return (M := m_J31_siftUp) (pc := 32) dJ31_siftUp_32 rfl H
theorem e_J31_siftUp {E : pw_E} {d : Nat} {w : pw_W} {Post : pw_R → pw_W → Prop} (v0 : Option Nat) (v1 : Int32) (v2 : Option Nat) (H : pw_Wp E m_J31_siftUp d 0 [some (va_rf v0), some (.int v1), some (va_rf v2)] [] w Post) : pw_Cl E m_J31_siftUp d [va_rf v0, .int v1, va_rf v2] w Post := pw_meth (by decide) rfl (pw_e1 (pw_cat_rf _) (pw_e1 rfl (pw_e1 (pw_cat_rf _) (pw_e0 (n := 0))))) H
theorem s_J31_siftUpComparable_0 {E : pw_E} {d : Nat} {w : pw_W} {Post : pw_R → pw_W → Prop} (v0 : Int32) (v1 : Option Nat) (v2 : Option Nat) (H : f_cast w v1 "java/lang/Comparable" (pw_Wp E m_J31_siftUpComparable (d + 1) 5 [some (.int v0), none, some (va_rf v2), some (va_rf v1), none, none] [] w Post)) : pw_Wp E m_J31_siftUpComparable (d + 1) 0 [some (.int v0), some (va_rf v1), some (va_rf v2), none, none, none] [] w Post := by
  refine r_aload_n (M := m_J31_siftUpComparable) (pc := 0) dJ31_siftUpComparable_0 1 rfl rfl ?_
  obtain ⟨hk, H⟩ := H
  refine r_cast (M := m_J31_siftUpComparable) (pc := 1) dJ31_siftUpComparable_1 "java/lang/Comparable" q2268 hk ?_
  refine r_astore_n (M := m_J31_siftUpComparable) (pc := 4) dJ31_siftUpComparable_4 3 rfl (Nat.le_of_ble_eq_true rfl) (pw_pre_rf rfl) ?_
  exact pw_weak (le_s (le_n (le_s (le_s (le_n (le_n le_0)))))) H
theorem s_J31_siftUpComparable_5 {E : pw_E} {d : Nat} {w : pw_W} {Post : pw_R → pw_W → Prop} (v0 : Int32) (v2 : Option Nat) (v3 : Option Nat) (H : (if v0 ≤ 0 then f_astr E w v2 v0 v3 (fun w5 => Post (.inl none) w5) else f_aldr w v2 (((v0 - 1).toUInt32 >>> ((1 : Int32).toUInt32 &&& Int32.toUInt32 31)).toInt32) (fun x6 => f_VA E w v3 [(21, m_J6_compareTo), (28, m_J21_compareTo)] d [va_rf x6] (c_i (fun x12 w11 => (if x12 < 0 then f_astr E w11 v2 v0 x6 (fun w21 => pw_Wp E m_J31_siftUpComparable (d + 1) 5 [some (.int (((v0 - 1).toUInt32 >>> ((1 : Int32).toUInt32 &&& Int32.toUInt32 31)).toInt32)), none, some (va_rf v2), some (va_rf v3), none, none] [] w21 Post) else f_astr E w11 v2 v0 v3 (fun w26 => Post (.inl none) w26))))))) : pw_Wp E m_J31_siftUpComparable (d + 1) 5 [some (.int v0), none, some (va_rf v2), some (va_rf v3), none, none] [] w Post := by
  refine r_iload_n (M := m_J31_siftUpComparable) (pc := 5) dJ31_siftUpComparable_5 0 rfl rfl ?_
  refine r_if_le (M := m_J31_siftUpComparable) (pc := 6) dJ31_siftUpComparable_6 47 (by decide) (fun hc => ?_) (fun hc => ?_)
  · replace H := f_it H hc
    refine r_aload_n (M := m_J31_siftUpComparable) (pc := 47) dJ31_siftUpComparable_47 2 rfl rfl ?_
    refine r_iload_n (M := m_J31_siftUpComparable) (pc := 48) dJ31_siftUpComparable_48 0 rfl rfl ?_
    refine r_aload_n (M := m_J31_siftUpComparable) (pc := 49) dJ31_siftUpComparable_49 3 rfl rfl ?_
    obtain ⟨a1, t2, Ct2, vs3, e9, h4, h4t, h46, h4b, h40, h4l, h4o, H⟩ := H; cases e9
    refine r_aastore (M := m_J31_siftUpComparable) (pc := 50) dJ31_siftUpComparable_50 t2 Ct2 h4t h46 h4 h4b h40 h4l h4o ?_
    exact r_return (M := m_J31_siftUpComparable) (pc := 51) dJ31_siftUpComparable_51 rfl H
  · replace H := f_if H hc
    refine r_iload_n (M := m_J31_siftUpComparable) (pc := 9) dJ31_siftUpComparable_9 0 rfl rfl ?_
    refine r_iconst (M := m_J31_siftUpComparable) (pc := 10) dJ31_siftUpComparable_10 1 rfl ?_
    refine r_isub (M := m_J31_siftUpComparable) (pc := 11) dJ31_siftUpComparable_11 ?_
    refine r_iconst (M := m_J31_siftUpComparable) (pc := 12) dJ31_siftUpComparable_12 1 rfl ?_
    refine r_iushr (M := m_J31_siftUpComparable) (pc := 13) dJ31_siftUpComparable_13 ?_
    refine r_istore (M := m_J31_siftUpComparable) (pc := 14) dJ31_siftUpComparable_14 (Nat.le_of_ble_eq_true rfl) (pw_pre_rf rfl) ?_
    refine r_aload_n (M := m_J31_siftUpComparable) (pc := 16) dJ31_siftUpComparable_16 2 rfl rfl ?_
    refine r_iload (M := m_J31_siftUpComparable) (pc := 17) dJ31_siftUpComparable_17 rfl ?_
    obtain ⟨a7, t8, tyt8, vs9, x6, e9, h10, h10t, h10r, h100, h10v, H⟩ := H; cases e9
    refine r_aaload (M := m_J31_siftUpComparable) (pc := 19) dJ31_siftUpComparable_19 t8 tyt8 h10t h10r h10 h100 h10v ?_
    refine r_astore (M := m_J31_siftUpComparable) (pc := 20) dJ31_siftUpComparable_20 (Nat.le_of_ble_eq_true rfl) rfl ?_
    refine r_aload_n (M := m_J31_siftUpComparable) (pc := 22) dJ31_siftUpComparable_22 3 rfl rfl ?_
    refine r_aload (M := m_J31_siftUpComparable) (pc := 23) dJ31_siftUpComparable_23 rfl ?_
    obtain ⟨a13, us14, k16, M9, e9, h15, hk9, H⟩ := H; cases e9
    refine r_alt2 hk9 H (nx := pw_nx E m_J31_siftUpComparable (d + 1) 25 5 _ _ Post) (pw_nx_i (fun x12 w11 H1 => ?_)) (fun e9 H => by subst e9; exact r_F (M := m_J31_siftUpComparable) (pc := 25) dJ31_siftUpComparable_25 ⟨"java/lang/Comparable", "compareTo", "(Ljava/lang/Object;)I"⟩ m_J6_compareTo k_J6_compareTo q2270 q1461 21 _ rfl q1459 (pw_fwm 5 rfl) (av := [va_rf _]) (dy := d) (pw_nyt (n := 1) (by decide +kernel) (by decide +kernel)) h15 rfl (pw_c4 (Nat.le_of_ble_eq_true rfl)) (Nat.le_refl _) H) (fun e9 H => by subst e9; exact r_F (M := m_J31_siftUpComparable) (pc := 25) dJ31_siftUpComparable_25 ⟨"java/lang/Comparable", "compareTo", "(Ljava/lang/Object;)I"⟩ m_J21_compareTo k_J21_compareTo q2270 q1448 28 _ rfl q1446 (pw_fwm 6 rfl) (av := [va_rf _]) (dy := d) (pw_nyt (n := 1) (by decide +kernel) (by decide +kernel)) h15 rfl (pw_c4 (Nat.le_of_ble_eq_true rfl)) (Nat.le_refl _) H)
    replace H := H1; clear H1
    refine r_if_lt (M := m_J31_siftUpComparable) (pc := 30) dJ31_siftUpComparable_30 36 (by decide) (fun hc => ?_) (fun hc => ?_)
    · replace H := f_it H hc
      refine r_aload_n (M := m_J31_siftUpComparable) (pc := 36) dJ31_siftUpComparable_36 2 rfl rfl ?_
      refine r_iload_n (M := m_J31_siftUpComparable) (pc := 37) dJ31_siftUpComparable_37 0 rfl rfl ?_
      refine r_aload (M := m_J31_siftUpComparable) (pc := 38) dJ31_siftUpComparable_38 rfl ?_
      obtain ⟨a17, t18, Ct18, vs19, e9, h20, h20t, h206, h20b, h200, h20l, h20o, H⟩ := H; cases e9
      refine r_aastore (M := m_J31_siftUpComparable) (pc := 40) dJ31_siftUpComparable_40 t18 Ct18 h20t h206 h20 h20b h200 h20l h20o ?_
      refine r_iload (M := m_J31_siftUpComparable) (pc := 41) dJ31_siftUpComparable_41 rfl ?_
      refine r_istore_n (M := m_J31_siftUpComparable) (pc := 43) dJ31_siftUpComparable_43 0 rfl (Nat.le_of_ble_eq_true rfl) rfl ?_
      refine r_goto (M := m_J31_siftUpComparable) (pc := 44) dJ31_siftUpComparable_44 5 (by decide) ?_
      exact pw_weak (le_s (le_n (le_s (le_s (le_n (le_n le_0)))))) H
    · replace H := f_if H hc
      refine r_goto (M := m_J31_siftUpComparable) (pc := 33) dJ31_siftUpComparable_33 47 (by decide) ?_
      refine r_aload_n (M := m_J31_siftUpComparable) (pc := 47) dJ31_siftUpComparable_47 2 rfl rfl ?_
      refine r_iload_n (M := m_J31_siftUpComparable) (pc := 48) dJ31_siftUpComparable_48 0 rfl rfl ?_
      refine r_aload_n (M := m_J31_siftUpComparable) (pc := 49) dJ31_siftUpComparable_49 3 rfl rfl ?_
      obtain ⟨a22, t23, Ct23, vs24, e9, h25, h25t, h256, h25b, h250, h25l, h25o, H⟩ := H; cases e9
      refine r_aastore (M := m_J31_siftUpComparable) (pc := 50) dJ31_siftUpComparable_50 t23 Ct23 h25t h256 h25 h25b h250 h25l h25o ?_
      exact r_return (M := m_J31_siftUpComparable) (pc := 51) dJ31_siftUpComparable_51 rfl H
theorem e_J31_siftUpComparable {E : pw_E} {d : Nat} {w : pw_W} {Post : pw_R → pw_W → Prop} (v0 : Int32) (v1 : Option Nat) (v2 : Option Nat) (H : pw_Wp E m_J31_siftUpComparable d 0 [some (.int v0), some (va_rf v1), some (va_rf v2), none, none, none] [] w Post) : pw_Cl E m_J31_siftUpComparable d [.int v0, va_rf v1, va_rf v2] w Post := pw_meth (by decide) rfl (pw_e1 rfl (pw_e1 (pw_cat_rf _) (pw_e1 (pw_cat_rf _) (pw_e0 (n := 3))))) H
theorem s_J31_siftUpUsingComparator_0 {E : pw_E} {d : Nat} {w : pw_W} {Post : pw_R → pw_W → Prop} (v0 : Int32) (v1 : Option Nat) (v2 : Option Nat) (v3 : Option Nat) (H : (if v0 ≤ 0 then f_astr E w v2 v0 v1 (fun w5 => Post (.inl none) w5) else f_aldr w v2 (((v0 - 1).toUInt32 >>> ((1 : Int32).toUInt32 &&& Int32.toUInt32 31)).toInt32) (fun x6 => f_V E w v3 14 m_X15_compare d [va_rf v1, va_rf x6] (c_i (fun x12 w11 => (if x12 < 0 then f_astr E w11 v2 v0 x6 (fun w20 => pw_Wp E m_J31_siftUpUsingComparator (d + 1) 0 [some (.int (((v0 - 1).toUInt32 >>> ((1 : Int32).toUInt32 &&& Int32.toUInt32 31)).toInt32)), some (va_rf v1), some (va_rf v2), some (va_rf v3), none, none] [] w20 Post) else f_astr E w11 v2 v0 v1 (fun w25 => Post (.inl none) w25))))))) : pw_Wp E m_J31_siftUpUsingComparator (d + 1) 0 [some (.int v0), some (va_rf v1), some (va_rf v2), some (va_rf v3), none, none] [] w Post := by
  refine r_iload_n (M := m_J31_siftUpUsingComparator) (pc := 0) dJ31_siftUpUsingComparator_0 0 rfl rfl ?_
  refine r_if_le (M := m_J31_siftUpUsingComparator) (pc := 1) dJ31_siftUpUsingComparator_1 43 (by decide) (fun hc => ?_) (fun hc => ?_)
  · replace H := f_it H hc
    refine r_aload_n (M := m_J31_siftUpUsingComparator) (pc := 43) dJ31_siftUpUsingComparator_43 2 rfl rfl ?_
    refine r_iload_n (M := m_J31_siftUpUsingComparator) (pc := 44) dJ31_siftUpUsingComparator_44 0 rfl rfl ?_
    refine r_aload_n (M := m_J31_siftUpUsingComparator) (pc := 45) dJ31_siftUpUsingComparator_45 1 rfl rfl ?_
    obtain ⟨a1, t2, Ct2, vs3, e9, h4, h4t, h46, h4b, h40, h4l, h4o, H⟩ := H; cases e9
    refine r_aastore (M := m_J31_siftUpUsingComparator) (pc := 46) dJ31_siftUpUsingComparator_46 t2 Ct2 h4t h46 h4 h4b h40 h4l h4o ?_
    exact r_return (M := m_J31_siftUpUsingComparator) (pc := 47) dJ31_siftUpUsingComparator_47 rfl H
  · replace H := f_if H hc
    refine r_iload_n (M := m_J31_siftUpUsingComparator) (pc := 4) dJ31_siftUpUsingComparator_4 0 rfl rfl ?_
    refine r_iconst (M := m_J31_siftUpUsingComparator) (pc := 5) dJ31_siftUpUsingComparator_5 1 rfl ?_
    refine r_isub (M := m_J31_siftUpUsingComparator) (pc := 6) dJ31_siftUpUsingComparator_6 ?_
    refine r_iconst (M := m_J31_siftUpUsingComparator) (pc := 7) dJ31_siftUpUsingComparator_7 1 rfl ?_
    refine r_iushr (M := m_J31_siftUpUsingComparator) (pc := 8) dJ31_siftUpUsingComparator_8 ?_
    refine r_istore (M := m_J31_siftUpUsingComparator) (pc := 9) dJ31_siftUpUsingComparator_9 (Nat.le_of_ble_eq_true rfl) (pw_pre_rf rfl) ?_
    refine r_aload_n (M := m_J31_siftUpUsingComparator) (pc := 11) dJ31_siftUpUsingComparator_11 2 rfl rfl ?_
    refine r_iload (M := m_J31_siftUpUsingComparator) (pc := 12) dJ31_siftUpUsingComparator_12 rfl ?_
    obtain ⟨a7, t8, tyt8, vs9, x6, e9, h10, h10t, h10r, h100, h10v, H⟩ := H; cases e9
    refine r_aaload (M := m_J31_siftUpUsingComparator) (pc := 14) dJ31_siftUpUsingComparator_14 t8 tyt8 h10t h10r h10 h100 h10v ?_
    refine r_astore (M := m_J31_siftUpUsingComparator) (pc := 15) dJ31_siftUpUsingComparator_15 (Nat.le_of_ble_eq_true rfl) rfl ?_
    refine r_aload_n (M := m_J31_siftUpUsingComparator) (pc := 17) dJ31_siftUpUsingComparator_17 3 rfl rfl ?_
    refine r_aload_n (M := m_J31_siftUpUsingComparator) (pc := 18) dJ31_siftUpUsingComparator_18 1 rfl rfl ?_
    refine r_aload (M := m_J31_siftUpUsingComparator) (pc := 19) dJ31_siftUpUsingComparator_19 rfl ?_
    obtain ⟨a13, us14, e9, h15, H⟩ := H; cases e9
    refine r_F (M := m_J31_siftUpUsingComparator) (pc := 21) dJ31_siftUpUsingComparator_21 ⟨"java/util/Comparator", "compare", "(Ljava/lang/Object;Ljava/lang/Object;)I"⟩ m_X15_compare k_X15_compare q2264 q1394 14 _ rfl q1392 (pw_fwm 7 rfl) (av := [va_rf _, va_rf _]) (dy := d) (pw_nyt (n := 2) (by decide +kernel) (by decide +kernel)) h15 rfl (pw_c4 (Nat.le_of_ble_eq_true rfl)) (Nat.le_refl _) (H.mono (pw_nx_i (fun x12 w11 H1 => ?_)))
    replace H := H1; clear H1
    refine r_if_lt (M := m_J31_siftUpUsingComparator) (pc := 26) dJ31_siftUpUsingComparator_26 32 (by decide) (fun hc => ?_) (fun hc => ?_)
    · replace H := f_it H hc
      refine r_aload_n (M := m_J31_siftUpUsingComparator) (pc := 32) dJ31_siftUpUsingComparator_32 2 rfl rfl ?_
      refine r_iload_n (M := m_J31_siftUpUsingComparator) (pc := 33) dJ31_siftUpUsingComparator_33 0 rfl rfl ?_
      refine r_aload (M := m_J31_siftUpUsingComparator) (pc := 34) dJ31_siftUpUsingComparator_34 rfl ?_
      obtain ⟨a16, t17, Ct17, vs18, e9, h19, h19t, h196, h19b, h190, h19l, h19o, H⟩ := H; cases e9
      refine r_aastore (M := m_J31_siftUpUsingComparator) (pc := 36) dJ31_siftUpUsingComparator_36 t17 Ct17 h19t h196 h19 h19b h190 h19l h19o ?_
      refine r_iload (M := m_J31_siftUpUsingComparator) (pc := 37) dJ31_siftUpUsingComparator_37 rfl ?_
      refine r_istore_n (M := m_J31_siftUpUsingComparator) (pc := 39) dJ31_siftUpUsingComparator_39 0 rfl (Nat.le_of_ble_eq_true rfl) rfl ?_
      refine r_goto (M := m_J31_siftUpUsingComparator) (pc := 40) dJ31_siftUpUsingComparator_40 0 (by decide) ?_
      exact pw_weak (le_s (le_s (le_s (le_s (le_n (le_n le_0)))))) H
    · replace H := f_if H hc
      refine r_goto (M := m_J31_siftUpUsingComparator) (pc := 29) dJ31_siftUpUsingComparator_29 43 (by decide) ?_
      refine r_aload_n (M := m_J31_siftUpUsingComparator) (pc := 43) dJ31_siftUpUsingComparator_43 2 rfl rfl ?_
      refine r_iload_n (M := m_J31_siftUpUsingComparator) (pc := 44) dJ31_siftUpUsingComparator_44 0 rfl rfl ?_
      refine r_aload_n (M := m_J31_siftUpUsingComparator) (pc := 45) dJ31_siftUpUsingComparator_45 1 rfl rfl ?_
      obtain ⟨a21, t22, Ct22, vs23, e9, h24, h24t, h246, h24b, h240, h24l, h24o, H⟩ := H; cases e9
      refine r_aastore (M := m_J31_siftUpUsingComparator) (pc := 46) dJ31_siftUpUsingComparator_46 t22 Ct22 h24t h246 h24 h24b h240 h24l h24o ?_
      exact r_return (M := m_J31_siftUpUsingComparator) (pc := 47) dJ31_siftUpUsingComparator_47 rfl H
theorem e_J31_siftUpUsingComparator {E : pw_E} {d : Nat} {w : pw_W} {Post : pw_R → pw_W → Prop} (v0 : Int32) (v1 : Option Nat) (v2 : Option Nat) (v3 : Option Nat) (H : pw_Wp E m_J31_siftUpUsingComparator d 0 [some (.int v0), some (va_rf v1), some (va_rf v2), some (va_rf v3), none, none] [] w Post) : pw_Cl E m_J31_siftUpUsingComparator d [.int v0, va_rf v1, va_rf v2, va_rf v3] w Post := pw_meth (by decide) rfl (pw_e1 rfl (pw_e1 (pw_cat_rf _) (pw_e1 (pw_cat_rf _) (pw_e1 (pw_cat_rf _) (pw_e0 (n := 2)))))) H
theorem s_J31_size_0 {E : pw_E} {d : Nat} {w : pw_W} {Post : pw_R → pw_W → Prop} (v0 : Option Nat) (H : f_geti w v0 27 1 (fun x1 => Post (.inl (some (.int x1))) w)) : pw_Wp E m_J31_size (d + 1) 0 [some (va_rf v0)] [] w Post := by
  refine r_aload_n (M := m_J31_size) (pc := 0) dJ31_size_0 0 rfl rfl ?_
  obtain ⟨a2, fs3, x1, e9, h4, h4v, H⟩ := H; cases e9
  refine r_get (M := m_J31_size) (pc := 1) dJ31_size_1 "java/util/PriorityQueue" 27 1 _ rfl (Nat.le_of_ble_eq_true rfl) q2208 (Or.inl rfl) h4 (Nat.le_of_ble_eq_true rfl) h4v ?_
  exact r_ireturn (M := m_J31_size) (pc := 4) dJ31_size_4 rfl H
theorem e_J31_size {E : pw_E} {d : Nat} {w : pw_W} {Post : pw_R → pw_W → Prop} (v0 : Option Nat) (H : pw_Wp E m_J31_size d 0 [some (va_rf v0)] [] w Post) : pw_Cl E m_J31_size d [va_rf v0] w Post := pw_meth (by decide) rfl (pw_e1 (pw_cat_rf _) (pw_e0 (n := 0))) H
theorem s_J31_toArray_0 {E : pw_E} {d : Nat} {w : pw_W} {Post : pw_R → pw_W → Prop} (v0 : Option Nat) (H : f_getr w v0 27 0 (fun x1 => f_geti w v0 27 1 (fun x5 => pw_Cl E m_J10_copyOf_2 d [va_rf x1, .int x5] w (c_r (fun o10 w9 => Post (.inl (some (va_rf o10))) w9))))) : pw_Wp E m_J31_toArray (d + 1) 0 [some (va_rf v0)] [] w Post := by
  refine r_aload_n (M := m_J31_toArray) (pc := 0) dJ31_toArray_0 0 rfl rfl ?_
  obtain ⟨a2, fs3, x1, e9, h4, h4v, H⟩ := H; cases e9
  refine r_get (M := m_J31_toArray) (pc := 1) dJ31_toArray_1 "java/util/PriorityQueue" 27 0 _ rfl (Nat.le_of_ble_eq_true rfl) q2206 (Or.inl rfl) h4 (Nat.le_of_ble_eq_true rfl) h4v ?_
  refine r_aload_n (M := m_J31_toArray) (pc := 4) dJ31_toArray_4 0 rfl rfl ?_
  obtain ⟨a6, fs7, x5, e9, h8, h8v, H⟩ := H; cases e9
  refine r_get (M := m_J31_toArray) (pc := 5) dJ31_toArray_5 "java/util/PriorityQueue" 27 1 _ rfl (Nat.le_of_ble_eq_true rfl) q2208 (Or.inl rfl) h8 (Nat.le_of_ble_eq_true rfl) h8v ?_
  refine r_S (M := m_J31_toArray) (pc := 8) dJ31_toArray_8 m_J10_copyOf_2 k_J10_copyOf_2 q2255 q783 (av := [va_rf _, .int _]) (dy := d) n_J10_copyOf_2 rfl (pw_c4 (Nat.le_of_ble_eq_true rfl)) (Nat.le_refl _) (H.mono (pw_nx_r (fun o10 w9 H1 => ?_)))
  replace H := H1; clear H1
  exact r_areturn (M := m_J31_toArray) (pc := 11) dJ31_toArray_11 rfl (by simp) H
theorem e_J31_toArray {E : pw_E} {d : Nat} {w : pw_W} {Post : pw_R → pw_W → Prop} (v0 : Option Nat) (H : pw_Wp E m_J31_toArray d 0 [some (va_rf v0)] [] w Post) : pw_Cl E m_J31_toArray d [va_rf v0] w Post := pw_meth (by decide) rfl (pw_e1 (pw_cat_rf _) (pw_e0 (n := 0))) H
theorem s_J3_compareTo_0 {E : pw_E} {d : Nat} {w : pw_W} {Post : pw_R → pw_W → Prop} (v0 : Option Nat) (v1 : Option Nat) (H : f_cast w v1 "java/lang/Enum" (False)) : pw_Wp E m_J3_compareTo (d + 1) 0 [some (va_rf v0), some (va_rf v1)] [] w Post := by
  refine r_aload_n (M := m_J3_compareTo) (pc := 0) dJ3_compareTo_0 0 rfl rfl ?_
  refine r_aload_n (M := m_J3_compareTo) (pc := 1) dJ3_compareTo_1 1 rfl rfl ?_
  obtain ⟨hk, H⟩ := H
  refine r_cast (M := m_J3_compareTo) (pc := 2) dJ3_compareTo_2 "java/lang/Enum" q1420 hk ?_
  exact H.elim
theorem e_J3_compareTo {E : pw_E} {d : Nat} {w : pw_W} {Post : pw_R → pw_W → Prop} (v0 : Option Nat) (v1 : Option Nat) (H : pw_Wp E m_J3_compareTo d 0 [some (va_rf v0), some (va_rf v1)] [] w Post) : pw_Cl E m_J3_compareTo d [va_rf v0, va_rf v1] w Post := pw_meth (by decide) rfl (pw_e1 (pw_cat_rf _) (pw_e1 (pw_cat_rf _) (pw_e0 (n := 0)))) H
theorem s_J3_compareTo_2_0 {E : pw_E} {d : Nat} {w : pw_W} {Post : pw_R → pw_W → Prop} (v0 : Option Nat) (v1 : Option Nat) (H : False) : pw_Wp E m_J3_compareTo_2 (d + 1) 0 [some (va_rf v0), some (va_rf v1), none, none] [] w Post := by
  refine r_aload_n (M := m_J3_compareTo_2) (pc := 0) dJ3_compareTo_2_0 1 rfl rfl ?_
  refine r_astore_n (M := m_J3_compareTo_2) (pc := 1) dJ3_compareTo_2_1 2 rfl (Nat.le_of_ble_eq_true rfl) (pw_pre_rf rfl) ?_
  refine r_aload_n (M := m_J3_compareTo_2) (pc := 2) dJ3_compareTo_2_2 0 rfl rfl ?_
  refine r_astore_n (M := m_J3_compareTo_2) (pc := 3) dJ3_compareTo_2_3 3 rfl (Nat.le_of_ble_eq_true rfl) (pw_pre_rf rfl) ?_
  refine r_aload_n (M := m_J3_compareTo_2) (pc := 4) dJ3_compareTo_2_4 3 rfl rfl ?_
  exact H.elim
theorem e_J3_compareTo_2 {E : pw_E} {d : Nat} {w : pw_W} {Post : pw_R → pw_W → Prop} (v0 : Option Nat) (v1 : Option Nat) (H : pw_Wp E m_J3_compareTo_2 d 0 [some (va_rf v0), some (va_rf v1), none, none] [] w Post) : pw_Cl E m_J3_compareTo_2 d [va_rf v0, va_rf v1] w Post := pw_meth (by decide) rfl (pw_e1 (pw_cat_rf _) (pw_e1 (pw_cat_rf _) (pw_e0 (n := 2)))) H
theorem s_J3_getDeclaringClass_0 {E : pw_E} {d : Nat} {w : pw_W} {Post : pw_R → pw_W → Prop} (v0 : Option Nat) (H : False) : pw_Wp E m_J3_getDeclaringClass (d + 1) 0 [some (va_rf v0), none, none] [] w Post := by
  refine r_aload_n (M := m_J3_getDeclaringClass) (pc := 0) dJ3_getDeclaringClass_0 0 rfl rfl ?_
  exact H.elim
theorem e_J3_getDeclaringClass {E : pw_E} {d : Nat} {w : pw_W} {Post : pw_R → pw_W → Prop} (v0 : Option Nat) (H : pw_Wp E m_J3_getDeclaringClass d 0 [some (va_rf v0), none, none] [] w Post) : pw_Cl E m_J3_getDeclaringClass d [va_rf v0] w Post := pw_meth (by decide) rfl (pw_e1 (pw_cat_rf _) (pw_e0 (n := 2))) H
theorem s_J3_ordinal_0 {E : pw_E} {d : Nat} {w : pw_W} {Post : pw_R → pw_W → Prop} (v0 : Option Nat) (H : f_getE w v0 (fun x1 => Post (.inl (some (.int x1))) w)) : pw_Wp E m_J3_ordinal (d + 1) 0 [some (va_rf v0)] [] w Post := by
  refine r_aload_n (M := m_J3_ordinal) (pc := 0) dJ3_ordinal_0 0 rfl rfl ?_
  obtain ⟨a9, i9, nm9, x1, e9, g9, h9, H⟩ := H; cases e9
  refine r_getE (M := m_J3_ordinal) (pc := 1) dJ3_ordinal_1 q3269 g9 h9 ?_
  exact r_ireturn (M := m_J3_ordinal) (pc := 4) dJ3_ordinal_4 rfl H
theorem e_J3_ordinal {E : pw_E} {d : Nat} {w : pw_W} {Post : pw_R → pw_W → Prop} (v0 : Option Nat) (H : pw_Wp E m_J3_ordinal d 0 [some (va_rf v0)] [] w Post) : pw_Cl E m_J3_ordinal d [va_rf v0] w Post := pw_meth (by decide) rfl (pw_e1 (pw_cat_rf _) (pw_e0 (n := 0))) H
theorem s_J4_append_0 {E : pw_E} {d : Nat} {w : pw_W} {Post : pw_R → pw_W → Prop} (v0 : Option Nat) (v1 : Int32) (H : f_geti w v0 20 3 (fun x1 => f_V E w v0 20 m_J4_ensureCapacityInternal d [.int (x1 + 1)] (c_v (fun w5 => f_V E w5 v0 20 m_J4_isLatin1 d [] (c_z (fun b10 w9 => (if (bI b10) = 0 then f_V E w9 v0 20 m_J4_isLatin1 d [] (c_z (fun b15 w14 => (if (bI b15) = 0 then f_getr w14 v0 20 0 (fun x19 => f_geti w14 v0 20 3 (fun x23 => f_put E w14 v0 20 3 (.int (x23 + 1)) (fun w30 => pw_Cl E m_J7_putCharSB d [va_rf x19, .int x23, .int v1] w30 (c_v (fun w31 => Post (.inl (some (va_rf v0))) w31))))) else f_V E w14 v0 20 m_J4_inflate d [] (c_v (fun w32 => f_getr w32 v0 20 0 (fun x36 => f_geti w32 v0 20 3 (fun x40 => f_put E w32 v0 20 3 (.int (x40 + 1)) (fun w47 => pw_Cl E m_J7_putCharSB d [va_rf x36, .int x40, .int v1] w47 (c_v (fun w48 => Post (.inl (some (va_rf v0))) w48)))))))))) else pw_Cl E m_J11_canEncode d [.int v1] w9 (c_z (fun b50 w49 => (if (bI b50) = 0 then f_V E w49 v0 20 m_J4_isLatin1 d [] (c_z (fun b52 w51 => (if (bI b52) = 0 then f_getr w51 v0 20 0 (fun x56 => f_geti w51 v0 20 3 (fun x60 => f_put E w51 v0 20 3 (.int (x60 + 1)) (fun w67 => pw_Cl E m_J7_putCharSB d [va_rf x56, .int x60, .int v1] w67 (c_v (fun w68 => Post (.inl (some (va_rf v0))) w68))))) else f_V E w51 v0 20 m_J4_inflate d [] (c_v (fun w69 => f_getr w69 v0 20 0 (fun x73 => f_geti w69 v0 20 3 (fun x77 => f_put E w69 v0 20 3 (.int (x77 + 1)) (fun w84 => pw_Cl E m_J7_putCharSB d [va_rf x73, .int x77, .int v1] w84 (c_v (fun w85 => Post (.inl (some (va_rf v0))) w85)))))))))) else f_getr w49 v0 20 0 (fun x86 => f_geti w49 v0 20 3 (fun x90 => f_put E w49 v0 20 3 (.int (x90 + 1)) (fun w97 => f_astb E w97 x86 x90 v1.toInt8.toInt32 (fun w102 => Post (.inl (some (va_rf v0))) w102)))))))))))))) : pw_Wp E m_J4_append (d + 1) 0 [some (va_rf v0), some (.int v1)] [] w Post := by
  refine r_aload_n (M := m_J4_append) (pc := 0) dJ4_append_0 0 rfl rfl ?_
  refine r_aload_n (M := m_J4_append) (pc := 1) dJ4_append_1 0 rfl rfl ?_
  obtain ⟨a2, fs3, x1, e9, h4, h4v, H⟩ := H; cases e9
  refine r_get (M := m_J4_append) (pc := 2) dJ4_append_2 "java/lang/AbstractStringBuilder" 20 3 _ rfl (Nat.le_of_ble_eq_true rfl) q352 (Or.inl rfl) h4 (Nat.le_of_ble_eq_true rfl) h4v ?_
  refine r_iconst (M := m_J4_append) (pc := 5) dJ4_append_5 1 rfl ?_
  refine r_iadd (M := m_J4_append) (pc := 6) dJ4_append_6 ?_
  obtain ⟨a6, us7, e9, h8, H⟩ := H; cases e9
  refine r_P (M := m_J4_append) (pc := 7) dJ4_append_7 m_J4_ensureCapacityInternal k_J4_ensureCapacityInternal q376 q378 q414 rfl q377 20 _ rfl (av := [.int _]) (dy := d) n_J4_ensureCapacityInternal h8 rfl (pw_c4 (Nat.le_of_ble_eq_true rfl)) (Nat.le_refl _) (H.mono (pw_nx_v (fun w5 H1 => ?_)))
  replace H := H1; clear H1
  refine r_aload_n (M := m_J4_append) (pc := 10) dJ4_append_10 0 rfl rfl ?_
  obtain ⟨a11, us12, e9, h13, H⟩ := H; cases e9
  refine r_V (M := m_J4_append) (pc := 11) dJ4_append_11 m_J4_isLatin1 k_J4_isLatin1 q411 q412 20 _ rfl q414 (av := []) (dy := d) n_J4_isLatin1 h13 rfl (pw_c4 (Nat.le_of_ble_eq_true rfl)) (Nat.le_refl _) (H.mono (pw_nx_z (fun b10 w9 H1 => ?_)))
  replace H := H1; clear H1
  refine r_if_eq (M := m_J4_append) (pc := 14) dJ4_append_14 45 (by decide) (fun hc => ?_) (fun hc => ?_)
  · replace H := f_it H hc
    refine r_aload_n (M := m_J4_append) (pc := 45) dJ4_append_45 0 rfl rfl ?_
    obtain ⟨a16, us17, e9, h18, H⟩ := H; cases e9
    refine r_V (M := m_J4_append) (pc := 46) dJ4_append_46 m_J4_isLatin1 k_J4_isLatin1 q411 q412 20 _ rfl q414 (av := []) (dy := d) n_J4_isLatin1 h18 rfl (pw_c4 (Nat.le_of_ble_eq_true rfl)) (Nat.le_refl _) (H.mono (pw_nx_z (fun b15 w14 H1 => ?_)))
    replace H := H1; clear H1
    refine r_if_eq (M := m_J4_append) (pc := 49) dJ4_append_49 56 (by decide) (fun hc => ?_) (fun hc => ?_)
    · replace H := f_it H hc
      refine r_aload_n (M := m_J4_append) (pc := 56) dJ4_append_56 0 rfl rfl ?_
      obtain ⟨a20, fs21, x19, e9, h22, h22v, H⟩ := H; cases e9
      refine r_get (M := m_J4_append) (pc := 57) dJ4_append_57 "java/lang/AbstractStringBuilder" 20 0 _ rfl (Nat.le_of_ble_eq_true rfl) q349 (Or.inl rfl) h22 (Nat.le_of_ble_eq_true rfl) h22v ?_
      refine r_aload_n (M := m_J4_append) (pc := 60) dJ4_append_60 0 rfl rfl ?_
      refine r_dup (M := m_J4_append) (pc := 61) dJ4_append_61 (pw_cat_rf _) ?_
      obtain ⟨a24, fs25, x23, e9, h26, h26v, H⟩ := H; cases e9
      refine r_get (M := m_J4_append) (pc := 62) dJ4_append_62 "java/lang/AbstractStringBuilder" 20 3 _ rfl (Nat.le_of_ble_eq_true rfl) q352 (Or.inl rfl) h26 (Nat.le_of_ble_eq_true rfl) h26v ?_
      refine r_dup_x1 (M := m_J4_append) (pc := 65) dJ4_append_65 rfl (pw_cat_rf _) ?_
      refine r_iconst (M := m_J4_append) (pc := 66) dJ4_append_66 1 rfl ?_
      refine r_iadd (M := m_J4_append) (pc := 67) dJ4_append_67 ?_
      obtain ⟨a27, fs28, e9, h29, h29b, H⟩ := H; cases e9
      refine r_put (M := m_J4_append) (pc := 68) dJ4_append_68 "java/lang/AbstractStringBuilder" 20 3 _ rfl (Nat.le_of_ble_eq_true rfl) q352 (Or.inl rfl) rfl h29 (Nat.le_of_ble_eq_true rfl) h29b rfl rfl ?_
      refine r_iload_n (M := m_J4_append) (pc := 71) dJ4_append_71 1 rfl rfl ?_
      refine r_S (M := m_J4_append) (pc := 72) dJ4_append_72 m_J7_putCharSB k_J7_putCharSB q452 q453 (av := [va_rf _, .int _, .int _]) (dy := d) n_J7_putCharSB rfl (pw_c4 (Nat.le_of_ble_eq_true rfl)) (Nat.le_refl _) (H.mono (pw_nx_v (fun w31 H1 => ?_)))
      replace H := H1; clear H1
      refine r_aload_n (M := m_J4_append) (pc := 75) dJ4_append_75 0 rfl rfl ?_
      exact r_areturn (M := m_J4_append) (pc := 76) dJ4_append_76 rfl (by simp) H
    · replace H := f_if H hc
      refine r_aload_n (M := m_J4_append) (pc := 52) dJ4_append_52 0 rfl rfl ?_
      obtain ⟨a33, us34, e9, h35, H⟩ := H; cases e9
      refine r_P (M := m_J4_append) (pc := 53) dJ4_append_53 m_J4_inflate k_J4_inflate q419 q421 q414 rfl q420 20 _ rfl (av := []) (dy := d) n_J4_inflate h35 rfl (pw_c4 (Nat.le_of_ble_eq_true rfl)) (Nat.le_refl _) (H.mono (pw_nx_v (fun w32 H1 => ?_)))
      replace H := H1; clear H1
      refine r_aload_n (M := m_J4_append) (pc := 56) dJ4_append_56 0 rfl rfl ?_
      obtain ⟨a37, fs38, x36, e9, h39, h39v, H⟩ := H; cases e9
      refine r_get (M := m_J4_append) (pc := 57) dJ4_append_57 "java/lang/AbstractStringBuilder" 20 0 _ rfl (Nat.le_of_ble_eq_true rfl) q349 (Or.inl rfl) h39 (Nat.le_of_ble_eq_true rfl) h39v ?_
      refine r_aload_n (M := m_J4_append) (pc := 60) dJ4_append_60 0 rfl rfl ?_
      refine r_dup (M := m_J4_append) (pc := 61) dJ4_append_61 (pw_cat_rf _) ?_
      obtain ⟨a41, fs42, x40, e9, h43, h43v, H⟩ := H; cases e9
      refine r_get (M := m_J4_append) (pc := 62) dJ4_append_62 "java/lang/AbstractStringBuilder" 20 3 _ rfl (Nat.le_of_ble_eq_true rfl) q352 (Or.inl rfl) h43 (Nat.le_of_ble_eq_true rfl) h43v ?_
      refine r_dup_x1 (M := m_J4_append) (pc := 65) dJ4_append_65 rfl (pw_cat_rf _) ?_
      refine r_iconst (M := m_J4_append) (pc := 66) dJ4_append_66 1 rfl ?_
      refine r_iadd (M := m_J4_append) (pc := 67) dJ4_append_67 ?_
      obtain ⟨a44, fs45, e9, h46, h46b, H⟩ := H; cases e9
      refine r_put (M := m_J4_append) (pc := 68) dJ4_append_68 "java/lang/AbstractStringBuilder" 20 3 _ rfl (Nat.le_of_ble_eq_true rfl) q352 (Or.inl rfl) rfl h46 (Nat.le_of_ble_eq_true rfl) h46b rfl rfl ?_
      refine r_iload_n (M := m_J4_append) (pc := 71) dJ4_append_71 1 rfl rfl ?_
      refine r_S (M := m_J4_append) (pc := 72) dJ4_append_72 m_J7_putCharSB k_J7_putCharSB q452 q453 (av := [va_rf _, .int _, .int _]) (dy := d) n_J7_putCharSB rfl (pw_c4 (Nat.le_of_ble_eq_true rfl)) (Nat.le_refl _) (H.mono (pw_nx_v (fun w48 H1 => ?_)))
      replace H := H1; clear H1
      refine r_aload_n (M := m_J4_append) (pc := 75) dJ4_append_75 0 rfl rfl ?_
      exact r_areturn (M := m_J4_append) (pc := 76) dJ4_append_76 rfl (by simp) H
  · replace H := f_if H hc
    refine r_iload_n (M := m_J4_append) (pc := 17) dJ4_append_17 1 rfl rfl ?_
    refine r_S (M := m_J4_append) (pc := 18) dJ4_append_18 m_J11_canEncode k_J11_canEncode q416 q417 (av := [.int _]) (dy := d) n_J11_canEncode rfl (pw_c4 (Nat.le_of_ble_eq_true rfl)) (Nat.le_refl _) (H.mono (pw_nx_z (fun b50 w49 H1 => ?_)))
    replace H := H1; clear H1
    refine r_if_eq (M := m_J4_append) (pc := 21) dJ4_append_21 45 (by decide) (fun hc => ?_) (fun hc => ?_)
    · replace H := f_it H hc
      refine r_aload_n (M := m_J4_append) (pc := 45) dJ4_append_45 0 rfl rfl ?_
      obtain ⟨a53, us54, e9, h55, H⟩ := H; cases e9
      refine r_V (M := m_J4_append) (pc := 46) dJ4_append_46 m_J4_isLatin1 k_J4_isLatin1 q411 q412 20 _ rfl q414 (av := []) (dy := d) n_J4_isLatin1 h55 rfl (pw_c4 (Nat.le_of_ble_eq_true rfl)) (Nat.le_refl _) (H.mono (pw_nx_z (fun b52 w51 H1 => ?_)))
      replace H := H1; clear H1
      refine r_if_eq (M := m_J4_append) (pc := 49) dJ4_append_49 56 (by decide) (fun hc => ?_) (fun hc => ?_)
      · replace H := f_it H hc
        refine r_aload_n (M := m_J4_append) (pc := 56) dJ4_append_56 0 rfl rfl ?_
        obtain ⟨a57, fs58, x56, e9, h59, h59v, H⟩ := H; cases e9
        refine r_get (M := m_J4_append) (pc := 57) dJ4_append_57 "java/lang/AbstractStringBuilder" 20 0 _ rfl (Nat.le_of_ble_eq_true rfl) q349 (Or.inl rfl) h59 (Nat.le_of_ble_eq_true rfl) h59v ?_
        refine r_aload_n (M := m_J4_append) (pc := 60) dJ4_append_60 0 rfl rfl ?_
        refine r_dup (M := m_J4_append) (pc := 61) dJ4_append_61 (pw_cat_rf _) ?_
        obtain ⟨a61, fs62, x60, e9, h63, h63v, H⟩ := H; cases e9
        refine r_get (M := m_J4_append) (pc := 62) dJ4_append_62 "java/lang/AbstractStringBuilder" 20 3 _ rfl (Nat.le_of_ble_eq_true rfl) q352 (Or.inl rfl) h63 (Nat.le_of_ble_eq_true rfl) h63v ?_
        refine r_dup_x1 (M := m_J4_append) (pc := 65) dJ4_append_65 rfl (pw_cat_rf _) ?_
        refine r_iconst (M := m_J4_append) (pc := 66) dJ4_append_66 1 rfl ?_
        refine r_iadd (M := m_J4_append) (pc := 67) dJ4_append_67 ?_
        obtain ⟨a64, fs65, e9, h66, h66b, H⟩ := H; cases e9
        refine r_put (M := m_J4_append) (pc := 68) dJ4_append_68 "java/lang/AbstractStringBuilder" 20 3 _ rfl (Nat.le_of_ble_eq_true rfl) q352 (Or.inl rfl) rfl h66 (Nat.le_of_ble_eq_true rfl) h66b rfl rfl ?_
        refine r_iload_n (M := m_J4_append) (pc := 71) dJ4_append_71 1 rfl rfl ?_
        refine r_S (M := m_J4_append) (pc := 72) dJ4_append_72 m_J7_putCharSB k_J7_putCharSB q452 q453 (av := [va_rf _, .int _, .int _]) (dy := d) n_J7_putCharSB rfl (pw_c4 (Nat.le_of_ble_eq_true rfl)) (Nat.le_refl _) (H.mono (pw_nx_v (fun w68 H1 => ?_)))
        replace H := H1; clear H1
        refine r_aload_n (M := m_J4_append) (pc := 75) dJ4_append_75 0 rfl rfl ?_
        exact r_areturn (M := m_J4_append) (pc := 76) dJ4_append_76 rfl (by simp) H
      · replace H := f_if H hc
        refine r_aload_n (M := m_J4_append) (pc := 52) dJ4_append_52 0 rfl rfl ?_
        obtain ⟨a70, us71, e9, h72, H⟩ := H; cases e9
        refine r_P (M := m_J4_append) (pc := 53) dJ4_append_53 m_J4_inflate k_J4_inflate q419 q421 q414 rfl q420 20 _ rfl (av := []) (dy := d) n_J4_inflate h72 rfl (pw_c4 (Nat.le_of_ble_eq_true rfl)) (Nat.le_refl _) (H.mono (pw_nx_v (fun w69 H1 => ?_)))
        replace H := H1; clear H1
        refine r_aload_n (M := m_J4_append) (pc := 56) dJ4_append_56 0 rfl rfl ?_
        obtain ⟨a74, fs75, x73, e9, h76, h76v, H⟩ := H; cases e9
        refine r_get (M := m_J4_append) (pc := 57) dJ4_append_57 "java/lang/AbstractStringBuilder" 20 0 _ rfl (Nat.le_of_ble_eq_true rfl) q349 (Or.inl rfl) h76 (Nat.le_of_ble_eq_true rfl) h76v ?_
        refine r_aload_n (M := m_J4_append) (pc := 60) dJ4_append_60 0 rfl rfl ?_
        refine r_dup (M := m_J4_append) (pc := 61) dJ4_append_61 (pw_cat_rf _) ?_
        obtain ⟨a78, fs79, x77, e9, h80, h80v, H⟩ := H; cases e9
        refine r_get (M := m_J4_append) (pc := 62) dJ4_append_62 "java/lang/AbstractStringBuilder" 20 3 _ rfl (Nat.le_of_ble_eq_true rfl) q352 (Or.inl rfl) h80 (Nat.le_of_ble_eq_true rfl) h80v ?_
        refine r_dup_x1 (M := m_J4_append) (pc := 65) dJ4_append_65 rfl (pw_cat_rf _) ?_
        refine r_iconst (M := m_J4_append) (pc := 66) dJ4_append_66 1 rfl ?_
        refine r_iadd (M := m_J4_append) (pc := 67) dJ4_append_67 ?_
        obtain ⟨a81, fs82, e9, h83, h83b, H⟩ := H; cases e9
        refine r_put (M := m_J4_append) (pc := 68) dJ4_append_68 "java/lang/AbstractStringBuilder" 20 3 _ rfl (Nat.le_of_ble_eq_true rfl) q352 (Or.inl rfl) rfl h83 (Nat.le_of_ble_eq_true rfl) h83b rfl rfl ?_
        refine r_iload_n (M := m_J4_append) (pc := 71) dJ4_append_71 1 rfl rfl ?_
        refine r_S (M := m_J4_append) (pc := 72) dJ4_append_72 m_J7_putCharSB k_J7_putCharSB q452 q453 (av := [va_rf _, .int _, .int _]) (dy := d) n_J7_putCharSB rfl (pw_c4 (Nat.le_of_ble_eq_true rfl)) (Nat.le_refl _) (H.mono (pw_nx_v (fun w85 H1 => ?_)))
        replace H := H1; clear H1
        refine r_aload_n (M := m_J4_append) (pc := 75) dJ4_append_75 0 rfl rfl ?_
        exact r_areturn (M := m_J4_append) (pc := 76) dJ4_append_76 rfl (by simp) H
    · replace H := f_if H hc
      refine r_aload_n (M := m_J4_append) (pc := 24) dJ4_append_24 0 rfl rfl ?_
      obtain ⟨a87, fs88, x86, e9, h89, h89v, H⟩ := H; cases e9
      refine r_get (M := m_J4_append) (pc := 25) dJ4_append_25 "java/lang/AbstractStringBuilder" 20 0 _ rfl (Nat.le_of_ble_eq_true rfl) q349 (Or.inl rfl) h89 (Nat.le_of_ble_eq_true rfl) h89v ?_
      refine r_aload_n (M := m_J4_append) (pc := 28) dJ4_append_28 0 rfl rfl ?_
      refine r_dup (M := m_J4_append) (pc := 29) dJ4_append_29 (pw_cat_rf _) ?_
      obtain ⟨a91, fs92, x90, e9, h93, h93v, H⟩ := H; cases e9
      refine r_get (M := m_J4_append) (pc := 30) dJ4_append_30 "java/lang/AbstractStringBuilder" 20 3 _ rfl (Nat.le_of_ble_eq_true rfl) q352 (Or.inl rfl) h93 (Nat.le_of_ble_eq_true rfl) h93v ?_
      refine r_dup_x1 (M := m_J4_append) (pc := 33) dJ4_append_33 rfl (pw_cat_rf _) ?_
      refine r_iconst (M := m_J4_append) (pc := 34) dJ4_append_34 1 rfl ?_
      refine r_iadd (M := m_J4_append) (pc := 35) dJ4_append_35 ?_
      obtain ⟨a94, fs95, e9, h96, h96b, H⟩ := H; cases e9
      refine r_put (M := m_J4_append) (pc := 36) dJ4_append_36 "java/lang/AbstractStringBuilder" 20 3 _ rfl (Nat.le_of_ble_eq_true rfl) q352 (Or.inl rfl) rfl h96 (Nat.le_of_ble_eq_true rfl) h96b rfl rfl ?_
      refine r_iload_n (M := m_J4_append) (pc := 39) dJ4_append_39 1 rfl rfl ?_
      refine r_i2b (M := m_J4_append) (pc := 40) dJ4_append_40 ?_
      obtain ⟨a98, vs100, e9, h101, h101b, h1010, h101l, H⟩ := H; cases e9
      refine r_bastore (M := m_J4_append) (pc := 41) dJ4_append_41 h101 h101b h1010 h101l ?_
      refine r_goto (M := m_J4_append) (pc := 42) dJ4_append_42 75 (by decide) ?_
      refine r_aload_n (M := m_J4_append) (pc := 75) dJ4_append_75 0 rfl rfl ?_
      exact r_areturn (M := m_J4_append) (pc := 76) dJ4_append_76 rfl (by simp) H
theorem e_J4_append {E : pw_E} {d : Nat} {w : pw_W} {Post : pw_R → pw_W → Prop} (v0 : Option Nat) (v1 : Int32) (H : pw_Wp E m_J4_append d 0 [some (va_rf v0), some (.int v1)] [] w Post) : pw_Cl E m_J4_append d [va_rf v0, .int v1] w Post := pw_meth (by decide) rfl (pw_e1 (pw_cat_rf _) (pw_e1 rfl (pw_e0 (n := 0)))) H
theorem s_J4_compareTo_0 {E : pw_E} {d : Nat} {w : pw_W} {Post : pw_R → pw_W → Prop} (v0 : Option Nat) (v1 : Option Nat) (H : (if v0 = v1 then Post (.inl (some (.int 0))) w else f_getr w v0 20 0 (fun x1 => f_getr w v1 20 0 (fun x5 => f_geti w v0 20 3 (fun x9 => f_geti w v1 20 3 (fun x13 => f_geti w v0 20 1 (fun x17 => f_geti w v1 20 1 (fun x21 => (if x17 = x21 then f_V E w v0 20 m_J4_isLatin1 d [] (c_z (fun b35 w34 => (if (bI b35) = 0 then pw_Cl E m_J7_compareTo_2 d [va_rf x1, va_rf x5, .int x9, .int x13] w34 (c_i (fun x40 w39 => Post (.inl (some (.int x40))) w39)) else pw_Cl E m_J11_compareTo_2 d [va_rf x1, va_rf x5, .int x9, .int x13] w34 (c_i (fun x42 w41 => Post (.inl (some (.int x42))) w41))))) else f_V E w v0 20 m_J4_isLatin1 d [] (c_z (fun b26 w25 => (if (bI b26) = 0 then pw_Cl E m_J7_compareToLatin1_2 d [va_rf x1, va_rf x5, .int x9, .int x13] w25 (c_i (fun x31 w30 => Post (.inl (some (.int x31))) w30)) else pw_Cl E m_J11_compareToUTF16_2 d [va_rf x1, va_rf x5, .int x9, .int x13] w25 (c_i (fun x33 w32 => Post (.inl (some (.int x33))) w32)))))))))))))) : pw_Wp E m_J4_compareTo (d + 1) 0 [some (va_rf v0), some (va_rf v1), none, none, none, none] [] w Post := by
  refine r_aload_n (M := m_J4_compareTo) (pc := 0) dJ4_compareTo_0 0 rfl rfl ?_
  refine r_aload_n (M := m_J4_compareTo) (pc := 1) dJ4_compareTo_1 1 rfl rfl ?_
  refine r_acmp_ne (M := m_J4_compareTo) (pc := 2) dJ4_compareTo_2 7 (by decide) (fun hc => ?_) (fun hc => ?_)
  · replace H := f_if H hc
    refine r_aload_n (M := m_J4_compareTo) (pc := 7) dJ4_compareTo_7 0 rfl rfl ?_
    obtain ⟨a2, fs3, x1, e9, h4, h4v, H⟩ := H; cases e9
    refine r_get (M := m_J4_compareTo) (pc := 8) dJ4_compareTo_8 "java/lang/AbstractStringBuilder" 20 0 _ rfl (Nat.le_of_ble_eq_true rfl) q349 (Or.inl rfl) h4 (Nat.le_of_ble_eq_true rfl) h4v ?_
    refine r_astore_n (M := m_J4_compareTo) (pc := 11) dJ4_compareTo_11 2 rfl (Nat.le_of_ble_eq_true rfl) (pw_pre_rf rfl) ?_
    refine r_aload_n (M := m_J4_compareTo) (pc := 12) dJ4_compareTo_12 1 rfl rfl ?_
    obtain ⟨a6, fs7, x5, e9, h8, h8v, H⟩ := H; cases e9
    refine r_get (M := m_J4_compareTo) (pc := 13) dJ4_compareTo_13 "java/lang/AbstractStringBuilder" 20 0 _ rfl (Nat.le_of_ble_eq_true rfl) q349 (Or.inl rfl) h8 (Nat.le_of_ble_eq_true rfl) h8v ?_
    refine r_astore_n (M := m_J4_compareTo) (pc := 16) dJ4_compareTo_16 3 rfl (Nat.le_of_ble_eq_true rfl) (pw_pre_rf rfl) ?_
    refine r_aload_n (M := m_J4_compareTo) (pc := 17) dJ4_compareTo_17 0 rfl rfl ?_
    obtain ⟨a10, fs11, x9, e9, h12, h12v, H⟩ := H; cases e9
    refine r_get (M := m_J4_compareTo) (pc := 18) dJ4_compareTo_18 "java/lang/AbstractStringBuilder" 20 3 _ rfl (Nat.le_of_ble_eq_true rfl) q352 (Or.inl rfl) h12 (Nat.le_of_ble_eq_true rfl) h12v ?_
    refine r_istore (M := m_J4_compareTo) (pc := 21) dJ4_compareTo_21 (Nat.le_of_ble_eq_true rfl) (pw_pre_rf rfl) ?_
    refine r_aload_n (M := m_J4_compareTo) (pc := 23) dJ4_compareTo_23 1 rfl rfl ?_
    obtain ⟨a14, fs15, x13, e9, h16, h16v, H⟩ := H; cases e9
    refine r_get (M := m_J4_compareTo) (pc := 24) dJ4_compareTo_24 "java/lang/AbstractStringBuilder" 20 3 _ rfl (Nat.le_of_ble_eq_true rfl) q352 (Or.inl rfl) h16 (Nat.le_of_ble_eq_true rfl) h16v ?_
    refine r_istore (M := m_J4_compareTo) (pc := 27) dJ4_compareTo_27 (Nat.le_of_ble_eq_true rfl) rfl ?_
    refine r_aload_n (M := m_J4_compareTo) (pc := 29) dJ4_compareTo_29 0 rfl rfl ?_
    obtain ⟨a18, fs19, x17, e9, h20, h20v, H⟩ := H; cases e9
    refine r_get (M := m_J4_compareTo) (pc := 30) dJ4_compareTo_30 "java/lang/AbstractStringBuilder" 20 1 _ rfl (Nat.le_of_ble_eq_true rfl) q350 (Or.inl rfl) h20 (Nat.le_of_ble_eq_true rfl) h20v ?_
    refine r_aload_n (M := m_J4_compareTo) (pc := 33) dJ4_compareTo_33 1 rfl rfl ?_
    obtain ⟨a22, fs23, x21, e9, h24, h24v, H⟩ := H; cases e9
    refine r_get (M := m_J4_compareTo) (pc := 34) dJ4_compareTo_34 "java/lang/AbstractStringBuilder" 20 1 _ rfl (Nat.le_of_ble_eq_true rfl) q350 (Or.inl rfl) h24 (Nat.le_of_ble_eq_true rfl) h24v ?_
    refine r_icmp_ne (M := m_J4_compareTo) (pc := 37) dJ4_compareTo_37 69 (by decide) (fun hc => ?_) (fun hc => ?_)
    · replace H := f_if H hc
      refine r_aload_n (M := m_J4_compareTo) (pc := 69) dJ4_compareTo_69 0 rfl rfl ?_
      obtain ⟨a27, us28, e9, h29, H⟩ := H; cases e9
      refine r_V (M := m_J4_compareTo) (pc := 70) dJ4_compareTo_70 m_J4_isLatin1 k_J4_isLatin1 q411 q412 20 _ rfl q414 (av := []) (dy := d) n_J4_isLatin1 h29 rfl (pw_c4 (Nat.le_of_ble_eq_true rfl)) (Nat.le_refl _) (H.mono (pw_nx_z (fun b26 w25 H1 => ?_)))
      replace H := H1; clear H1
      refine r_if_eq (M := m_J4_compareTo) (pc := 73) dJ4_compareTo_73 88 (by decide) (fun hc => ?_) (fun hc => ?_)
      · replace H := f_it H hc
        refine r_aload_n (M := m_J4_compareTo) (pc := 88) dJ4_compareTo_88 2 rfl rfl ?_
        refine r_aload_n (M := m_J4_compareTo) (pc := 89) dJ4_compareTo_89 3 rfl rfl ?_
        refine r_iload (M := m_J4_compareTo) (pc := 90) dJ4_compareTo_90 rfl ?_
        refine r_iload (M := m_J4_compareTo) (pc := 92) dJ4_compareTo_92 rfl ?_
        refine r_S (M := m_J4_compareTo) (pc := 94) dJ4_compareTo_94 m_J7_compareToLatin1_2 k_J7_compareToLatin1_2 q1635 q1636 (av := [va_rf _, va_rf _, .int _, .int _]) (dy := d) n_J7_compareToLatin1_2 rfl (pw_c4 (Nat.le_of_ble_eq_true rfl)) (Nat.le_refl _) (H.mono (pw_nx_i (fun x31 w30 H1 => ?_)))
        replace H := H1; clear H1
        exact r_ireturn (M := m_J4_compareTo) (pc := 97) dJ4_compareTo_97 rfl H
      · replace H := f_if H hc
        refine r_aload_n (M := m_J4_compareTo) (pc := 76) dJ4_compareTo_76 2 rfl rfl ?_
        refine r_aload_n (M := m_J4_compareTo) (pc := 77) dJ4_compareTo_77 3 rfl rfl ?_
        refine r_iload (M := m_J4_compareTo) (pc := 78) dJ4_compareTo_78 rfl ?_
        refine r_iload (M := m_J4_compareTo) (pc := 80) dJ4_compareTo_80 rfl ?_
        refine r_S (M := m_J4_compareTo) (pc := 82) dJ4_compareTo_82 m_J11_compareToUTF16_2 k_J11_compareToUTF16_2 q1631 q1632 (av := [va_rf _, va_rf _, .int _, .int _]) (dy := d) n_J11_compareToUTF16_2 rfl (pw_c4 (Nat.le_of_ble_eq_true rfl)) (Nat.le_refl _) (H.mono (pw_nx_i (fun x33 w32 H1 => ?_)))
        replace H := H1; clear H1
        refine r_goto (M := m_J4_compareTo) (pc := 85) dJ4_compareTo_85 97 (by decide) ?_
        exact r_ireturn (M := m_J4_compareTo) (pc := 97) dJ4_compareTo_97 rfl H
    · replace H := f_it H hc
      refine r_aload_n (M := m_J4_compareTo) (pc := 40) dJ4_compareTo_40 0 rfl rfl ?_
      obtain ⟨a36, us37, e9, h38, H⟩ := H; cases e9
      refine r_V (M := m_J4_compareTo) (pc := 41) dJ4_compareTo_41 m_J4_isLatin1 k_J4_isLatin1 q411 q412 20 _ rfl q414 (av := []) (dy := d) n_J4_isLatin1 h38 rfl (pw_c4 (Nat.le_of_ble_eq_true rfl)) (Nat.le_refl _) (H.mono (pw_nx_z (fun b35 w34 H1 => ?_)))
      replace H := H1; clear H1
      refine r_if_eq (M := m_J4_compareTo) (pc := 44) dJ4_compareTo_44 59 (by decide) (fun hc => ?_) (fun hc => ?_)
      · replace H := f_it H hc
        refine r_aload_n (M := m_J4_compareTo) (pc := 59) dJ4_compareTo_59 2 rfl rfl ?_
        refine r_aload_n (M := m_J4_compareTo) (pc := 60) dJ4_compareTo_60 3 rfl rfl ?_
        refine r_iload (M := m_J4_compareTo) (pc := 61) dJ4_compareTo_61 rfl ?_
        refine r_iload (M := m_J4_compareTo) (pc := 63) dJ4_compareTo_63 rfl ?_
        refine r_S (M := m_J4_compareTo) (pc := 65) dJ4_compareTo_65 m_J7_compareTo_2 k_J7_compareTo_2 q1619 q1620 (av := [va_rf _, va_rf _, .int _, .int _]) (dy := d) n_J7_compareTo_2 rfl (pw_c4 (Nat.le_of_ble_eq_true rfl)) (Nat.le_refl _) (H.mono (pw_nx_i (fun x40 w39 H1 => ?_)))
        replace H := H1; clear H1
        exact r_ireturn (M := m_J4_compareTo) (pc := 68) dJ4_compareTo_68 rfl H
      · replace H := f_if H hc
        refine r_aload_n (M := m_J4_compareTo) (pc := 47) dJ4_compareTo_47 2 rfl rfl ?_
        refine r_aload_n (M := m_J4_compareTo) (pc := 48) dJ4_compareTo_48 3 rfl rfl ?_
        refine r_iload (M := m_J4_compareTo) (pc := 49) dJ4_compareTo_49 rfl ?_
        refine r_iload (M := m_J4_compareTo) (pc := 51) dJ4_compareTo_51 rfl ?_
        refine r_S (M := m_J4_compareTo) (pc := 53) dJ4_compareTo_53 m_J11_compareTo_2 k_J11_compareTo_2 q1618 q1472 (av := [va_rf _, va_rf _, .int _, .int _]) (dy := d) n_J11_compareTo_2 rfl (pw_c4 (Nat.le_of_ble_eq_true rfl)) (Nat.le_refl _) (H.mono (pw_nx_i (fun x42 w41 H1 => ?_)))
        replace H := H1; clear H1
        refine r_goto (M := m_J4_compareTo) (pc := 56) dJ4_compareTo_56 68 (by decide) ?_
        exact r_ireturn (M := m_J4_compareTo) (pc := 68) dJ4_compareTo_68 rfl H
  · replace H := f_it H hc
    refine r_iconst (M := m_J4_compareTo) (pc := 5) dJ4_compareTo_5 0 rfl ?_
    exact r_ireturn (M := m_J4_compareTo) (pc := 6) dJ4_compareTo_6 rfl H
theorem e_J4_compareTo {E : pw_E} {d : Nat} {w : pw_W} {Post : pw_R → pw_W → Prop} (v0 : Option Nat) (v1 : Option Nat) (H : pw_Wp E m_J4_compareTo d 0 [some (va_rf v0), some (va_rf v1), none, none, none, none] [] w Post) : pw_Cl E m_J4_compareTo d [va_rf v0, va_rf v1] w Post := pw_meth (by decide) rfl (pw_e1 (pw_cat_rf _) (pw_e1 (pw_cat_rf _) (pw_e0 (n := 4)))) H
theorem s_J4_ensureCapacityInternal_0 {E : pw_E} {d : Nat} {w : pw_W} {Post : pw_R → pw_W → Prop} (v0 : Option Nat) (v1 : Int32) (H : f_getr w v0 20 0 (fun x1 => f_len w x1 (fun x5 => f_geti w v0 20 1 (fun x10 => (if (v1 - (x5 >>> (x10 &&& 31))) ≤ 0 then Post (.inl none) w else f_getr w v0 20 0 (fun x14 => f_V E w v0 20 m_J4_newCapacity d [.int v1] (c_i (fun x19 w18 => f_geti w18 v0 20 1 (fun x23 => pw_Cl E m_J10_copyOf d [va_rf x14, .int (x19 <<< (x23 &&& 31))] w18 (c_r (fun o28 w27 => f_put E w27 v0 20 0 (va_rf o28) (fun w32 => Post (.inl none) w32)))))))))))) : pw_Wp E m_J4_ensureCapacityInternal (d + 1) 0 [some (va_rf v0), some (.int v1), none] [] w Post := by
  refine r_aload_n (M := m_J4_ensureCapacityInternal) (pc := 0) dJ4_ensureCapacityInternal_0 0 rfl rfl ?_
  obtain ⟨a2, fs3, x1, e9, h4, h4v, H⟩ := H; cases e9
  refine r_get (M := m_J4_ensureCapacityInternal) (pc := 1) dJ4_ensureCapacityInternal_1 "java/lang/AbstractStringBuilder" 20 0 _ rfl (Nat.le_of_ble_eq_true rfl) q349 (Or.inl rfl) h4 (Nat.le_of_ble_eq_true rfl) h4v ?_
  obtain ⟨a6, t7, tyt7, vs8, e9, h9, h9t, H⟩ := H; cases e9
  refine r_alen (M := m_J4_ensureCapacityInternal) (pc := 4) dJ4_ensureCapacityInternal_4 t7 tyt7 h9t h9 ?_
  refine r_aload_n (M := m_J4_ensureCapacityInternal) (pc := 5) dJ4_ensureCapacityInternal_5 0 rfl rfl ?_
  obtain ⟨a11, fs12, x10, e9, h13, h13v, H⟩ := H; cases e9
  refine r_get (M := m_J4_ensureCapacityInternal) (pc := 6) dJ4_ensureCapacityInternal_6 "java/lang/AbstractStringBuilder" 20 1 _ rfl (Nat.le_of_ble_eq_true rfl) q350 (Or.inl rfl) h13 (Nat.le_of_ble_eq_true rfl) h13v ?_
  refine r_ishr (M := m_J4_ensureCapacityInternal) (pc := 9) dJ4_ensureCapacityInternal_9 ?_
  refine r_istore_n (M := m_J4_ensureCapacityInternal) (pc := 10) dJ4_ensureCapacityInternal_10 2 rfl (Nat.le_of_ble_eq_true rfl) rfl ?_
  refine r_iload_n (M := m_J4_ensureCapacityInternal) (pc := 11) dJ4_ensureCapacityInternal_11 1 rfl rfl ?_
  refine r_iload_n (M := m_J4_ensureCapacityInternal) (pc := 12) dJ4_ensureCapacityInternal_12 2 rfl rfl ?_
  refine r_isub (M := m_J4_ensureCapacityInternal) (pc := 13) dJ4_ensureCapacityInternal_13 ?_
  refine r_if_le (M := m_J4_ensureCapacityInternal) (pc := 14) dJ4_ensureCapacityInternal_14 38 (by decide) (fun hc => ?_) (fun hc => ?_)
  · replace H := f_it H hc
    exact r_return (M := m_J4_ensureCapacityInternal) (pc := 38) dJ4_ensureCapacityInternal_38 rfl H
  · replace H := f_if H hc
    refine r_aload_n (M := m_J4_ensureCapacityInternal) (pc := 17) dJ4_ensureCapacityInternal_17 0 rfl rfl ?_
    refine r_aload_n (M := m_J4_ensureCapacityInternal) (pc := 18) dJ4_ensureCapacityInternal_18 0 rfl rfl ?_
    obtain ⟨a15, fs16, x14, e9, h17, h17v, H⟩ := H; cases e9
    refine r_get (M := m_J4_ensureCapacityInternal) (pc := 19) dJ4_ensureCapacityInternal_19 "java/lang/AbstractStringBuilder" 20 0 _ rfl (Nat.le_of_ble_eq_true rfl) q349 (Or.inl rfl) h17 (Nat.le_of_ble_eq_true rfl) h17v ?_
    refine r_aload_n (M := m_J4_ensureCapacityInternal) (pc := 22) dJ4_ensureCapacityInternal_22 0 rfl rfl ?_
    refine r_iload_n (M := m_J4_ensureCapacityInternal) (pc := 23) dJ4_ensureCapacityInternal_23 1 rfl rfl ?_
    obtain ⟨a20, us21, e9, h22, H⟩ := H; cases e9
    refine r_P (M := m_J4_ensureCapacityInternal) (pc := 24) dJ4_ensureCapacityInternal_24 m_J4_newCapacity k_J4_newCapacity q380 q382 q414 rfl q381 20 _ rfl (av := [.int _]) (dy := d) n_J4_newCapacity h22 rfl (pw_c4 (Nat.le_of_ble_eq_true rfl)) (Nat.le_refl _) (H.mono (pw_nx_i (fun x19 w18 H1 => ?_)))
    replace H := H1; clear H1
    refine r_aload_n (M := m_J4_ensureCapacityInternal) (pc := 27) dJ4_ensureCapacityInternal_27 0 rfl rfl ?_
    obtain ⟨a24, fs25, x23, e9, h26, h26v, H⟩ := H; cases e9
    refine r_get (M := m_J4_ensureCapacityInternal) (pc := 28) dJ4_ensureCapacityInternal_28 "java/lang/AbstractStringBuilder" 20 1 _ rfl (Nat.le_of_ble_eq_true rfl) q350 (Or.inl rfl) h26 (Nat.le_of_ble_eq_true rfl) h26v ?_
    refine r_ishl (M := m_J4_ensureCapacityInternal) (pc := 31) dJ4_ensureCapacityInternal_31 ?_
    refine r_S (M := m_J4_ensureCapacityInternal) (pc := 32) dJ4_ensureCapacityInternal_32 m_J10_copyOf k_J10_copyOf q395 q396 (av := [va_rf _, .int _]) (dy := d) n_J10_copyOf rfl (pw_c4 (Nat.le_of_ble_eq_true rfl)) (Nat.le_refl _) (H.mono (pw_nx_r (fun o28 w27 H1 => ?_)))
    replace H := H1; clear H1
    obtain ⟨a29, fs30, e9, h31, h31b, H⟩ := H; cases e9
    refine r_put (M := m_J4_ensureCapacityInternal) (pc := 35) dJ4_ensureCapacityInternal_35 "java/lang/AbstractStringBuilder" 20 0 _ rfl (Nat.le_of_ble_eq_true rfl) q349 (Or.inl rfl) rfl h31 (Nat.le_of_ble_eq_true rfl) h31b (nar_ra _ _) (fit_ra _ _) ?_
    exact r_return (M := m_J4_ensureCapacityInternal) (pc := 38) dJ4_ensureCapacityInternal_38 rfl H
theorem e_J4_ensureCapacityInternal {E : pw_E} {d : Nat} {w : pw_W} {Post : pw_R → pw_W → Prop} (v0 : Option Nat) (v1 : Int32) (H : pw_Wp E m_J4_ensureCapacityInternal d 0 [some (va_rf v0), some (.int v1), none] [] w Post) : pw_Cl E m_J4_ensureCapacityInternal d [va_rf v0, .int v1] w Post := pw_meth (by decide) rfl (pw_e1 (pw_cat_rf _) (pw_e1 rfl (pw_e0 (n := 1)))) H
theorem s_J4_getValue_0 {E : pw_E} {d : Nat} {w : pw_W} {Post : pw_R → pw_W → Prop} (v0 : Option Nat) (H : f_getr w v0 20 0 (fun x1 => Post (.inl (some (va_rf x1))) w)) : pw_Wp E m_J4_getValue (d + 1) 0 [some (va_rf v0)] [] w Post := by
  refine r_aload_n (M := m_J4_getValue) (pc := 0) dJ4_getValue_0 0 rfl rfl ?_
  obtain ⟨a2, fs3, x1, e9, h4, h4v, H⟩ := H; cases e9
  refine r_get (M := m_J4_getValue) (pc := 1) dJ4_getValue_1 "java/lang/AbstractStringBuilder" 20 0 _ rfl (Nat.le_of_ble_eq_true rfl) q349 (Or.inl rfl) h4 (Nat.le_of_ble_eq_true rfl) h4v ?_
  exact r_areturn (M := m_J4_getValue) (pc := 4) dJ4_getValue_4 rfl (by simp) H
theorem e_J4_getValue {E : pw_E} {d : Nat} {w : pw_W} {Post : pw_R → pw_W → Prop} (v0 : Option Nat) (H : pw_Wp E m_J4_getValue d 0 [some (va_rf v0)] [] w Post) : pw_Cl E m_J4_getValue d [va_rf v0] w Post := pw_meth (by decide) rfl (pw_e1 (pw_cat_rf _) (pw_e0 (n := 0))) H
theorem s_J4_inflate_0 {E : pw_E} {d : Nat} {w : pw_W} {Post : pw_R → pw_W → Prop} (v0 : Option Nat) (H : f_V E w v0 20 m_J4_isLatin1 d [] (c_z (fun b2 w1 => (if (bI b2) = 0 then Post (.inl none) w1 else f_getr w1 v0 20 0 (fun x6 => f_len w1 x6 (fun x10 => pw_Cl E m_J7_newBytesFor d [.int x10] w1 (c_r (fun o16 w15 => f_getr w15 v0 20 0 (fun x17 => f_geti w15 v0 20 3 (fun x21 => pw_Cl E m_J11_inflate d [va_rf x17, .int 0, va_rf o16, .int 0, .int x21] w15 (c_v (fun w25 => f_put E w25 v0 20 0 (va_rf o16) (fun w29 => f_put E w29 v0 20 1 (.int 1) (fun w33 => Post (.inl none) w33)))))))))))))) : pw_Wp E m_J4_inflate (d + 1) 0 [some (va_rf v0), none] [] w Post := by
  refine r_aload_n (M := m_J4_inflate) (pc := 0) dJ4_inflate_0 0 rfl rfl ?_
  obtain ⟨a3, us4, e9, h5, H⟩ := H; cases e9
  refine r_V (M := m_J4_inflate) (pc := 1) dJ4_inflate_1 m_J4_isLatin1 k_J4_isLatin1 q411 q412 20 _ rfl q414 (av := []) (dy := d) n_J4_isLatin1 h5 rfl (pw_c4 (Nat.le_of_ble_eq_true rfl)) (Nat.le_refl _) (H.mono (pw_nx_z (fun b2 w1 H1 => ?_)))
  replace H := H1; clear H1
  refine r_if_ne (M := m_J4_inflate) (pc := 4) dJ4_inflate_4 8 (by decide) (fun hc => ?_) (fun hc => ?_)
  · replace H := f_if H hc
    refine r_aload_n (M := m_J4_inflate) (pc := 8) dJ4_inflate_8 0 rfl rfl ?_
    obtain ⟨a7, fs8, x6, e9, h9, h9v, H⟩ := H; cases e9
    refine r_get (M := m_J4_inflate) (pc := 9) dJ4_inflate_9 "java/lang/AbstractStringBuilder" 20 0 _ rfl (Nat.le_of_ble_eq_true rfl) q349 (Or.inl rfl) h9 (Nat.le_of_ble_eq_true rfl) h9v ?_
    obtain ⟨a11, t12, tyt12, vs13, e9, h14, h14t, H⟩ := H; cases e9
    refine r_alen (M := m_J4_inflate) (pc := 12) dJ4_inflate_12 t12 tyt12 h14t h14 ?_
    refine r_S (M := m_J4_inflate) (pc := 13) dJ4_inflate_13 m_J7_newBytesFor k_J7_newBytesFor q342 q343 (av := [.int _]) (dy := d) n_J7_newBytesFor rfl (pw_c4 (Nat.le_of_ble_eq_true rfl)) (Nat.le_refl _) (H.mono (pw_nx_r (fun o16 w15 H1 => ?_)))
    replace H := H1; clear H1
    refine r_astore_n (M := m_J4_inflate) (pc := 16) dJ4_inflate_16 1 rfl (Nat.le_of_ble_eq_true rfl) (pw_pre_rf rfl) ?_
    refine r_aload_n (M := m_J4_inflate) (pc := 17) dJ4_inflate_17 0 rfl rfl ?_
    obtain ⟨a18, fs19, x17, e9, h20, h20v, H⟩ := H; cases e9
    refine r_get (M := m_J4_inflate) (pc := 18) dJ4_inflate_18 "java/lang/AbstractStringBuilder" 20 0 _ rfl (Nat.le_of_ble_eq_true rfl) q349 (Or.inl rfl) h20 (Nat.le_of_ble_eq_true rfl) h20v ?_
    refine r_iconst (M := m_J4_inflate) (pc := 21) dJ4_inflate_21 0 rfl ?_
    refine r_aload_n (M := m_J4_inflate) (pc := 22) dJ4_inflate_22 1 rfl rfl ?_
    refine r_iconst (M := m_J4_inflate) (pc := 23) dJ4_inflate_23 0 rfl ?_
    refine r_aload_n (M := m_J4_inflate) (pc := 24) dJ4_inflate_24 0 rfl rfl ?_
    obtain ⟨a22, fs23, x21, e9, h24, h24v, H⟩ := H; cases e9
    refine r_get (M := m_J4_inflate) (pc := 25) dJ4_inflate_25 "java/lang/AbstractStringBuilder" 20 3 _ rfl (Nat.le_of_ble_eq_true rfl) q352 (Or.inl rfl) h24 (Nat.le_of_ble_eq_true rfl) h24v ?_
    refine r_S (M := m_J4_inflate) (pc := 28) dJ4_inflate_28 m_J11_inflate k_J11_inflate q423 q424 (av := [va_rf _, .int _, va_rf _, .int _, .int _]) (dy := d) n_J11_inflate rfl (pw_c4 (Nat.le_of_ble_eq_true rfl)) (Nat.le_refl _) (H.mono (pw_nx_v (fun w25 H1 => ?_)))
    replace H := H1; clear H1
    refine r_aload_n (M := m_J4_inflate) (pc := 31) dJ4_inflate_31 0 rfl rfl ?_
    refine r_aload_n (M := m_J4_inflate) (pc := 32) dJ4_inflate_32 1 rfl rfl ?_
    obtain ⟨a26, fs27, e9, h28, h28b, H⟩ := H; cases e9
    refine r_put (M := m_J4_inflate) (pc := 33) dJ4_inflate_33 "java/lang/AbstractStringBuilder" 20 0 _ rfl (Nat.le_of_ble_eq_true rfl) q349 (Or.inl rfl) rfl h28 (Nat.le_of_ble_eq_true rfl) h28b (nar_ra _ _) (fit_ra _ _) ?_
    refine r_aload_n (M := m_J4_inflate) (pc := 36) dJ4_inflate_36 0 rfl rfl ?_
    refine r_iconst (M := m_J4_inflate) (pc := 37) dJ4_inflate_37 1 rfl ?_
    obtain ⟨a30, fs31, e9, h32, h32b, H⟩ := H; cases e9
    refine r_put (M := m_J4_inflate) (pc := 38) dJ4_inflate_38 "java/lang/AbstractStringBuilder" 20 1 _ rfl (Nat.le_of_ble_eq_true rfl) q350 (Or.inl rfl) rfl h32 (Nat.le_of_ble_eq_true rfl) h32b rfl rfl ?_
    exact r_return (M := m_J4_inflate) (pc := 41) dJ4_inflate_41 rfl H
  · replace H := f_it H hc
    exact r_return (M := m_J4_inflate) (pc := 7) dJ4_inflate_7 rfl H
theorem e_J4_inflate {E : pw_E} {d : Nat} {w : pw_W} {Post : pw_R → pw_W → Prop} (v0 : Option Nat) (H : pw_Wp E m_J4_inflate d 0 [some (va_rf v0), none] [] w Post) : pw_Cl E m_J4_inflate d [va_rf v0] w Post := pw_meth (by decide) rfl (pw_e1 (pw_cat_rf _) (pw_e0 (n := 1))) H
theorem s_J4_init_0 {E : pw_E} {d : Nat} {w : pw_W} {Post : pw_R → pw_W → Prop} (a0 : Nat) (v1 : Int32) (H : f_sti E 2 (fun x1 => (if x1 = 0 then pw_Cl E m_J7_newBytesFor d [.int v1] w (c_r (fun o4 w3 => f_put E w3 (some a0) 20 0 (va_rf o4) (fun w8 => f_put E w8 (some a0) 20 1 (.int 1) (fun w12 => Post (.inl none) w12)))) else f_newa w 1 v1 (.int 0) (fun w13 => f_put E w13 (some a0) 20 0 (va_rf (some w.2.1)) (fun w17 => f_put E w17 (some a0) 20 1 (.int 0) (fun w21 => Post (.inl none) w21)))))) : pw_Wp E m_J4_init (d + 1) 0 [some (va_rf (some a0)), some (.int v1)] [] w Post := by
  refine r_aload_n (M := m_J4_init) (pc := 0) dJ4_init_0 0 rfl rfl ?_
  refine r_objInit (M := m_J4_init) (pc := 1) dJ4_init_1 q339 q197 q198 (Nat.succ_pos _) (Nat.le_of_ble_eq_true rfl) ?_
  obtain ⟨x1, h2, H⟩ := H
  refine r_getstatic (M := m_J4_init) (pc := 4) dJ4_init_4 2 _ rfl q340 h2 ?_
  refine r_if_eq (M := m_J4_init) (pc := 7) dJ4_init_7 25 (by decide) (fun hc => ?_) (fun hc => ?_)
  · replace H := f_it H hc
    refine r_aload_n (M := m_J4_init) (pc := 25) dJ4_init_25 0 rfl rfl ?_
    refine r_iload_n (M := m_J4_init) (pc := 26) dJ4_init_26 1 rfl rfl ?_
    refine r_S (M := m_J4_init) (pc := 27) dJ4_init_27 m_J7_newBytesFor k_J7_newBytesFor q342 q343 (av := [.int _]) (dy := d) n_J7_newBytesFor rfl (pw_c4 (Nat.le_of_ble_eq_true rfl)) (Nat.le_refl _) (H.mono (pw_nx_r (fun o4 w3 H1 => ?_)))
    replace H := H1; clear H1
    obtain ⟨a5, fs6, e9, h7, h7b, H⟩ := H; cases e9
    refine r_put (M := m_J4_init) (pc := 30) dJ4_init_30 "java/lang/AbstractStringBuilder" 20 0 _ rfl (Nat.le_of_ble_eq_true rfl) q349 (Or.inl rfl) rfl h7 (Nat.le_of_ble_eq_true rfl) h7b (nar_ra _ _) (fit_ra _ _) ?_
    refine r_aload_n (M := m_J4_init) (pc := 33) dJ4_init_33 0 rfl rfl ?_
    refine r_iconst (M := m_J4_init) (pc := 34) dJ4_init_34 1 rfl ?_
    obtain ⟨a9, fs10, e9, h11, h11b, H⟩ := H; cases e9
    refine r_put (M := m_J4_init) (pc := 35) dJ4_init_35 "java/lang/AbstractStringBuilder" 20 1 _ rfl (Nat.le_of_ble_eq_true rfl) q350 (Or.inl rfl) rfl h11 (Nat.le_of_ble_eq_true rfl) h11b rfl rfl ?_
    exact r_return (M := m_J4_init) (pc := 38) dJ4_init_38 rfl H
  · replace H := f_if H hc
    refine r_aload_n (M := m_J4_init) (pc := 10) dJ4_init_10 0 rfl rfl ?_
    refine r_iload_n (M := m_J4_init) (pc := 11) dJ4_init_11 1 rfl rfl ?_
    obtain ⟨hn0, hnb, H⟩ := H
    refine r_newarray (M := m_J4_init) (pc := 12) dJ4_init_12 1 rfl (Nat.le_of_ble_eq_true rfl) q236 (by rintro ⟨C, h⟩; cases h) hn0 (pw_big hnb (by decide)) ?_
    obtain ⟨a14, fs15, e9, h16, h16b, H⟩ := H; cases e9
    refine r_put (M := m_J4_init) (pc := 14) dJ4_init_14 "java/lang/AbstractStringBuilder" 20 0 _ rfl (Nat.le_of_ble_eq_true rfl) q349 (Or.inl rfl) rfl h16 (Nat.le_of_ble_eq_true rfl) h16b (nar_ra _ _) (fit_ra _ _) ?_
    refine r_aload_n (M := m_J4_init) (pc := 17) dJ4_init_17 0 rfl rfl ?_
    refine r_iconst (M := m_J4_init) (pc := 18) dJ4_init_18 0 rfl ?_
    obtain ⟨a18, fs19, e9, h20, h20b, H⟩ := H; cases e9
    refine r_put (M := m_J4_init) (pc := 19) dJ4_init_19 "java/lang/AbstractStringBuilder" 20 1 _ rfl (Nat.le_of_ble_eq_true rfl) q350 (Or.inl rfl) rfl h20 (Nat.le_of_ble_eq_true rfl) h20b rfl rfl ?_
    refine r_goto (M := m_J4_init) (pc := 22) dJ4_init_22 38 (by decide) ?_
    exact r_return (M := m_J4_init) (pc := 38) dJ4_init_38 rfl H
theorem e_J4_init {E : pw_E} {d : Nat} {w : pw_W} {Post : pw_R → pw_W → Prop} (a0 : Nat) (v1 : Int32) (H : pw_Wp E m_J4_init d 0 [some (va_rf (some a0)), some (.int v1)] [] w Post) : pw_Cl E m_J4_init d [va_rf (some a0), .int v1] w Post := pw_meth (by decide) rfl (pw_e1 (pw_cat_rf _) (pw_e1 rfl (pw_e0 (n := 0)))) H
theorem s_J4_isLatin1_0 {E : pw_E} {d : Nat} {w : pw_W} {Post : pw_R → pw_W → Prop} (v0 : Option Nat) (H : f_sti E 2 (fun x1 => (if x1 = 0 then Post (.inl (some (.int 0))) w else f_geti w v0 20 1 (fun x3 => (if x3 = 0 then Post (.inl (some (.int 1))) w else Post (.inl (some (.int 0))) w))))) : pw_Wp E m_J4_isLatin1 (d + 1) 0 [some (va_rf v0)] [] w Post := by
  obtain ⟨x1, h2, H⟩ := H
  refine r_getstatic (M := m_J4_isLatin1) (pc := 0) dJ4_isLatin1_0 2 _ rfl q340 h2 ?_
  refine r_if_eq (M := m_J4_isLatin1) (pc := 3) dJ4_isLatin1_3 17 (by decide) (fun hc => ?_) (fun hc => ?_)
  · replace H := f_it H hc
    refine r_iconst (M := m_J4_isLatin1) (pc := 17) dJ4_isLatin1_17 0 rfl ?_
    exact r_zreturn (M := m_J4_isLatin1) (pc := 18) dJ4_isLatin1_18 rfl rfl H
  · replace H := f_if H hc
    refine r_aload_n (M := m_J4_isLatin1) (pc := 6) dJ4_isLatin1_6 0 rfl rfl ?_
    obtain ⟨a4, fs5, x3, e9, h6, h6v, H⟩ := H; cases e9
    refine r_get (M := m_J4_isLatin1) (pc := 7) dJ4_isLatin1_7 "java/lang/AbstractStringBuilder" 20 1 _ rfl (Nat.le_of_ble_eq_true rfl) q350 (Or.inl rfl) h6 (Nat.le_of_ble_eq_true rfl) h6v ?_
    refine r_if_ne (M := m_J4_isLatin1) (pc := 10) dJ4_isLatin1_10 17 (by decide) (fun hc => ?_) (fun hc => ?_)
    · replace H := f_if H hc
      refine r_iconst (M := m_J4_isLatin1) (pc := 17) dJ4_isLatin1_17 0 rfl ?_
      exact r_zreturn (M := m_J4_isLatin1) (pc := 18) dJ4_isLatin1_18 rfl rfl H
    · replace H := f_it H hc
      refine r_iconst (M := m_J4_isLatin1) (pc := 13) dJ4_isLatin1_13 1 rfl ?_
      refine r_goto (M := m_J4_isLatin1) (pc := 14) dJ4_isLatin1_14 18 (by decide) ?_
      exact r_zreturn (M := m_J4_isLatin1) (pc := 18) dJ4_isLatin1_18 rfl rfl H
theorem e_J4_isLatin1 {E : pw_E} {d : Nat} {w : pw_W} {Post : pw_R → pw_W → Prop} (v0 : Option Nat) (H : pw_Wp E m_J4_isLatin1 d 0 [some (va_rf v0)] [] w Post) : pw_Cl E m_J4_isLatin1 d [va_rf v0] w Post := pw_meth (by decide) rfl (pw_e1 (pw_cat_rf _) (pw_e0 (n := 0))) H
theorem s_J4_length_0 {E : pw_E} {d : Nat} {w : pw_W} {Post : pw_R → pw_W → Prop} (v0 : Option Nat) (H : f_geti w v0 20 3 (fun x1 => Post (.inl (some (.int x1))) w)) : pw_Wp E m_J4_length (d + 1) 0 [some (va_rf v0)] [] w Post := by
  refine r_aload_n (M := m_J4_length) (pc := 0) dJ4_length_0 0 rfl rfl ?_
  obtain ⟨a2, fs3, x1, e9, h4, h4v, H⟩ := H; cases e9
  refine r_get (M := m_J4_length) (pc := 1) dJ4_length_1 "java/lang/AbstractStringBuilder" 20 3 _ rfl (Nat.le_of_ble_eq_true rfl) q352 (Or.inl rfl) h4 (Nat.le_of_ble_eq_true rfl) h4v ?_
  exact r_ireturn (M := m_J4_length) (pc := 4) dJ4_length_4 rfl H
theorem e_J4_length {E : pw_E} {d : Nat} {w : pw_W} {Post : pw_R → pw_W → Prop} (v0 : Option Nat) (H : pw_Wp E m_J4_length d 0 [some (va_rf v0)] [] w Post) : pw_Cl E m_J4_length d [va_rf v0] w Post := pw_meth (by decide) rfl (pw_e1 (pw_cat_rf _) (pw_e0 (n := 0))) H
theorem s_J4_newCapacity_0 {E : pw_E} {d : Nat} {w : pw_W} {Post : pw_R → pw_W → Prop} (v0 : Option Nat) (v1 : Int32) (H : f_getr w v0 20 0 (fun x1 => f_len w x1 (fun x5 => f_geti w v0 20 1 (fun x10 => f_geti w v0 20 1 (fun x14 => pw_Cl E m_J8_newLength d [.int x5, .int ((v1 <<< (x10 &&& 31)) - x5), .int (x5 + (2 <<< (x14 &&& 31)))] w (c_i (fun x19 w18 => (if x19 = 2147483647 then False else f_geti w18 v0 20 1 (fun x20 => Post (.inl (some (.int (x19 >>> (x20 &&& 31))))) w18))))))))) : pw_Wp E m_J4_newCapacity (d + 1) 0 [some (va_rf v0), some (.int v1), none, none, none, none] [] w Post := by
  refine r_aload_n (M := m_J4_newCapacity) (pc := 0) dJ4_newCapacity_0 0 rfl rfl ?_
  obtain ⟨a2, fs3, x1, e9, h4, h4v, H⟩ := H; cases e9
  refine r_get (M := m_J4_newCapacity) (pc := 1) dJ4_newCapacity_1 "java/lang/AbstractStringBuilder" 20 0 _ rfl (Nat.le_of_ble_eq_true rfl) q349 (Or.inl rfl) h4 (Nat.le_of_ble_eq_true rfl) h4v ?_
  obtain ⟨a6, t7, tyt7, vs8, e9, h9, h9t, H⟩ := H; cases e9
  refine r_alen (M := m_J4_newCapacity) (pc := 4) dJ4_newCapacity_4 t7 tyt7 h9t h9 ?_
  refine r_istore_n (M := m_J4_newCapacity) (pc := 5) dJ4_newCapacity_5 2 rfl (Nat.le_of_ble_eq_true rfl) rfl ?_
  refine r_iload_n (M := m_J4_newCapacity) (pc := 6) dJ4_newCapacity_6 1 rfl rfl ?_
  refine r_aload_n (M := m_J4_newCapacity) (pc := 7) dJ4_newCapacity_7 0 rfl rfl ?_
  obtain ⟨a11, fs12, x10, e9, h13, h13v, H⟩ := H; cases e9
  refine r_get (M := m_J4_newCapacity) (pc := 8) dJ4_newCapacity_8 "java/lang/AbstractStringBuilder" 20 1 _ rfl (Nat.le_of_ble_eq_true rfl) q350 (Or.inl rfl) h13 (Nat.le_of_ble_eq_true rfl) h13v ?_
  refine r_ishl (M := m_J4_newCapacity) (pc := 11) dJ4_newCapacity_11 ?_
  refine r_istore_n (M := m_J4_newCapacity) (pc := 12) dJ4_newCapacity_12 3 rfl (Nat.le_of_ble_eq_true rfl) rfl ?_
  refine r_iload_n (M := m_J4_newCapacity) (pc := 13) dJ4_newCapacity_13 3 rfl rfl ?_
  refine r_iload_n (M := m_J4_newCapacity) (pc := 14) dJ4_newCapacity_14 2 rfl rfl ?_
  refine r_isub (M := m_J4_newCapacity) (pc := 15) dJ4_newCapacity_15 ?_
  refine r_istore (M := m_J4_newCapacity) (pc := 16) dJ4_newCapacity_16 (Nat.le_of_ble_eq_true rfl) rfl ?_
  refine r_iload_n (M := m_J4_newCapacity) (pc := 18) dJ4_newCapacity_18 2 rfl rfl ?_
  refine r_iload (M := m_J4_newCapacity) (pc := 19) dJ4_newCapacity_19 rfl ?_
  refine r_iload_n (M := m_J4_newCapacity) (pc := 21) dJ4_newCapacity_21 2 rfl rfl ?_
  refine r_iconst (M := m_J4_newCapacity) (pc := 22) dJ4_newCapacity_22 2 rfl ?_
  refine r_aload_n (M := m_J4_newCapacity) (pc := 23) dJ4_newCapacity_23 0 rfl rfl ?_
  obtain ⟨a15, fs16, x14, e9, h17, h17v, H⟩ := H; cases e9
  refine r_get (M := m_J4_newCapacity) (pc := 24) dJ4_newCapacity_24 "java/lang/AbstractStringBuilder" 20 1 _ rfl (Nat.le_of_ble_eq_true rfl) q350 (Or.inl rfl) h17 (Nat.le_of_ble_eq_true rfl) h17v ?_
  refine r_ishl (M := m_J4_newCapacity) (pc := 27) dJ4_newCapacity_27 ?_
  refine r_iadd (M := m_J4_newCapacity) (pc := 28) dJ4_newCapacity_28 ?_
  refine r_S (M := m_J4_newCapacity) (pc := 29) dJ4_newCapacity_29 m_J8_newLength k_J8_newLength q384 q385 (av := [.int _, .int _, .int _]) (dy := d) n_J8_newLength rfl (pw_c4 (Nat.le_of_ble_eq_true rfl)) (Nat.le_refl _) (H.mono (pw_nx_i (fun x19 w18 H1 => ?_)))
  replace H := H1; clear H1
  refine r_istore (M := m_J4_newCapacity) (pc := 32) dJ4_newCapacity_32 (Nat.le_of_ble_eq_true rfl) rfl ?_
  refine r_iload (M := m_J4_newCapacity) (pc := 34) dJ4_newCapacity_34 rfl ?_
  refine r_ldc (M := m_J4_newCapacity) (pc := 36) dJ4_newCapacity_36 2147483647 q394 ?_
  refine r_icmp_ne (M := m_J4_newCapacity) (pc := 38) dJ4_newCapacity_38 51 (by decide) (fun hc => ?_) (fun hc => ?_)
  · replace H := f_if H hc
    refine r_iload (M := m_J4_newCapacity) (pc := 51) dJ4_newCapacity_51 rfl ?_
    refine r_aload_n (M := m_J4_newCapacity) (pc := 53) dJ4_newCapacity_53 0 rfl rfl ?_
    obtain ⟨a21, fs22, x20, e9, h23, h23v, H⟩ := H; cases e9
    refine r_get (M := m_J4_newCapacity) (pc := 54) dJ4_newCapacity_54 "java/lang/AbstractStringBuilder" 20 1 _ rfl (Nat.le_of_ble_eq_true rfl) q350 (Or.inl rfl) h23 (Nat.le_of_ble_eq_true rfl) h23v ?_
    refine r_ishr (M := m_J4_newCapacity) (pc := 57) dJ4_newCapacity_57 ?_
    exact r_ireturn (M := m_J4_newCapacity) (pc := 58) dJ4_newCapacity_58 rfl H
  · replace H := f_it H hc
    exact H.elim
theorem e_J4_newCapacity {E : pw_E} {d : Nat} {w : pw_W} {Post : pw_R → pw_W → Prop} (v0 : Option Nat) (v1 : Int32) (H : pw_Wp E m_J4_newCapacity d 0 [some (va_rf v0), some (.int v1), none, none, none, none] [] w Post) : pw_Cl E m_J4_newCapacity d [va_rf v0, .int v1] w Post := pw_meth (by decide) rfl (pw_e1 (pw_cat_rf _) (pw_e1 rfl (pw_e0 (n := 4)))) H
theorem s_J5_append_0 {E : pw_E} {d : Nat} {w : pw_W} {Post : pw_R → pw_W → Prop} (v0 : Option Nat) (v1 : Int32) (H : f_V E w v0 20 m_J4_append d [.int v1] (c_r (fun o2 w1 => Post (.inl (some (va_rf v0))) w1))) : pw_Wp E m_J5_append (d + 1) 0 [some (va_rf v0), some (.int v1)] [] w Post := by
  refine r_aload_n (M := m_J5_append) (pc := 0) dJ5_append_0 0 rfl rfl ?_
  refine r_iload_n (M := m_J5_append) (pc := 1) dJ5_append_1 1 rfl rfl ?_
  obtain ⟨a3, us4, e9, h5, H⟩ := H; cases e9
  refine r_SU (M := m_J5_append) (pc := 2) dJ5_append_2 m_J4_append k_J4_append q373 q3206 q361 q374 (by decide +kernel) 20 _ rfl (av := [.int _]) (dy := d) n_J4_append h5 rfl (pw_c4 (Nat.le_of_ble_eq_true rfl)) (Nat.le_refl _) (H.mono (pw_nx_r (fun o2 w1 H1 => ?_)))
  replace H := H1; clear H1
  refine r_pop (M := m_J5_append) (pc := 5) dJ5_append_5 (pw_cat_rf _) ?_
  refine r_aload_n (M := m_J5_append) (pc := 6) dJ5_append_6 0 rfl rfl ?_
  exact r_areturn (M := m_J5_append) (pc := 7) dJ5_append_7 rfl (by simp) H
theorem e_J5_append {E : pw_E} {d : Nat} {w : pw_W} {Post : pw_R → pw_W → Prop} (v0 : Option Nat) (v1 : Int32) (H : pw_Wp E m_J5_append d 0 [some (va_rf v0), some (.int v1)] [] w Post) : pw_Cl E m_J5_append d [va_rf v0, .int v1] w Post := pw_meth (by decide) rfl (pw_e1 (pw_cat_rf _) (pw_e1 rfl (pw_e0 (n := 0)))) H
theorem s_J5_compareTo_0 {E : pw_E} {d : Nat} {w : pw_W} {Post : pw_R → pw_W → Prop} (v0 : Option Nat) (v1 : Option Nat) (H : f_cast w v1 "java/lang/StringBuilder" (f_V E w v0 20 m_J5_compareTo_2 d [va_rf v1] (c_i (fun x2 w1 => Post (.inl (some (.int x2))) w1)))) : pw_Wp E m_J5_compareTo (d + 1) 0 [some (va_rf v0), some (va_rf v1)] [] w Post := by
  refine r_aload_n (M := m_J5_compareTo) (pc := 0) dJ5_compareTo_0 0 rfl rfl ?_
  refine r_aload_n (M := m_J5_compareTo) (pc := 1) dJ5_compareTo_1 1 rfl rfl ?_
  obtain ⟨hk, H⟩ := H
  refine r_cast (M := m_J5_compareTo) (pc := 2) dJ5_compareTo_2 "java/lang/StringBuilder" q1610 hk ?_
  obtain ⟨a3, us4, e9, h5, H⟩ := H; cases e9
  refine r_V (M := m_J5_compareTo) (pc := 5) dJ5_compareTo_5 m_J5_compareTo_2 k_J5_compareTo_2 q1611 q1612 20 _ rfl q1613 (av := [va_rf _]) (dy := d) n_J5_compareTo_2 h5 rfl (pw_c4 (Nat.le_of_ble_eq_true rfl)) (Nat.le_refl _) (H.mono (pw_nx_i (fun x2 w1 H1 => ?_)))
  replace H := H1; clear H1
  exact r_ireturn (M := m_J5_compareTo) (pc := 8) dJ5_compareTo_8 rfl H
theorem e_J5_compareTo {E : pw_E} {d : Nat} {w : pw_W} {Post : pw_R → pw_W → Prop} (v0 : Option Nat) (v1 : Option Nat) (H : pw_Wp E m_J5_compareTo d 0 [some (va_rf v0), some (va_rf v1)] [] w Post) : pw_Cl E m_J5_compareTo d [va_rf v0, va_rf v1] w Post := pw_meth (by decide) rfl (pw_e1 (pw_cat_rf _) (pw_e1 (pw_cat_rf _) (pw_e0 (n := 0)))) H
theorem s_J5_compareTo_2_0 {E : pw_E} {d : Nat} {w : pw_W} {Post : pw_R → pw_W → Prop} (v0 : Option Nat) (v1 : Option Nat) (H : f_V E w v0 20 m_J4_compareTo d [va_rf v1] (c_i (fun x2 w1 => Post (.inl (some (.int x2))) w1))) : pw_Wp E m_J5_compareTo_2 (d + 1) 0 [some (va_rf v0), some (va_rf v1)] [] w Post := by
  refine r_aload_n (M := m_J5_compareTo_2) (pc := 0) dJ5_compareTo_2_0 0 rfl rfl ?_
  refine r_aload_n (M := m_J5_compareTo_2) (pc := 1) dJ5_compareTo_2_1 1 rfl rfl ?_
  obtain ⟨a3, us4, e9, h5, H⟩ := H; cases e9
  refine r_SU (M := m_J5_compareTo_2) (pc := 2) dJ5_compareTo_2_2 m_J4_compareTo k_J4_compareTo q1615 q3217 q361 q1616 (by decide +kernel) 20 _ rfl (av := [va_rf _]) (dy := d) n_J4_compareTo h5 rfl (pw_c4 (Nat.le_of_ble_eq_true rfl)) (Nat.le_refl _) (H.mono (pw_nx_i (fun x2 w1 H1 => ?_)))
  replace H := H1; clear H1
  exact r_ireturn (M := m_J5_compareTo_2) (pc := 5) dJ5_compareTo_2_5 rfl H
theorem e_J5_compareTo_2 {E : pw_E} {d : Nat} {w : pw_W} {Post : pw_R → pw_W → Prop} (v0 : Option Nat) (v1 : Option Nat) (H : pw_Wp E m_J5_compareTo_2 d 0 [some (va_rf v0), some (va_rf v1)] [] w Post) : pw_Cl E m_J5_compareTo_2 d [va_rf v0, va_rf v1] w Post := pw_meth (by decide) rfl (pw_e1 (pw_cat_rf _) (pw_e1 (pw_cat_rf _) (pw_e0 (n := 0)))) H
theorem s_J5_init_0 {E : pw_E} {d : Nat} {w : pw_W} {Post : pw_R → pw_W → Prop} (a0 : Nat) (v1 : Int32) (H : pw_Cl E m_J4_init d (va_rf (some a0) :: [.int v1]) w (c_v (fun w1 => Post (.inl none) w1))) : pw_Wp E m_J5_init (d + 1) 0 [some (va_rf (some a0)), some (.int v1)] [] w Post := by
  refine r_aload_n (M := m_J5_init) (pc := 0) dJ5_init_0 0 rfl rfl ?_
  refine r_iload_n (M := m_J5_init) (pc := 1) dJ5_init_1 1 rfl rfl ?_
  refine r_I (M := m_J5_init) (pc := 2) dJ5_init_2 m_J4_init k_J4_init rfl rfl q336 q337 (av := [.int _]) (dy := d) n_J4_init rfl (pw_c4 (Nat.le_of_ble_eq_true rfl)) (Nat.le_refl _) (H.mono (pw_nx_v (fun w1 H1 => ?_)))
  replace H := H1; clear H1
  exact r_return (M := m_J5_init) (pc := 5) dJ5_init_5 rfl H
theorem e_J5_init {E : pw_E} {d : Nat} {w : pw_W} {Post : pw_R → pw_W → Prop} (a0 : Nat) (v1 : Int32) (H : pw_Wp E m_J5_init d 0 [some (va_rf (some a0)), some (.int v1)] [] w Post) : pw_Cl E m_J5_init d [va_rf (some a0), .int v1] w Post := pw_meth (by decide) rfl (pw_e1 (pw_cat_rf _) (pw_e1 rfl (pw_e0 (n := 0)))) H
theorem s_J5_length_0 {E : pw_E} {d : Nat} {w : pw_W} {Post : pw_R → pw_W → Prop} (v0 : Option Nat) (H : f_V E w v0 20 m_J4_length d [] (c_i (fun x2 w1 => Post (.inl (some (.int x2))) w1))) : pw_Wp E m_J5_length (d + 1) 0 [some (va_rf v0)] [] w Post := by
  refine r_aload_n (M := m_J5_length) (pc := 0) dJ5_length_0 0 rfl rfl ?_
  obtain ⟨a3, us4, e9, h5, H⟩ := H; cases e9
  refine r_SU (M := m_J5_length) (pc := 1) dJ5_length_1 m_J4_length k_J4_length q366 q3205 q361 q367 (by decide +kernel) 20 _ rfl (av := []) (dy := d) n_J4_length h5 rfl (pw_c4 (Nat.le_of_ble_eq_true rfl)) (Nat.le_refl _) (H.mono (pw_nx_i (fun x2 w1 H1 => ?_)))
  replace H := H1; clear H1
  exact r_ireturn (M := m_J5_length) (pc := 4) dJ5_length_4 rfl H
theorem e_J5_length {E : pw_E} {d : Nat} {w : pw_W} {Post : pw_R → pw_W → Prop} (v0 : Option Nat) (H : pw_Wp E m_J5_length d 0 [some (va_rf v0)] [] w Post) : pw_Cl E m_J5_length d [va_rf v0] w Post := pw_meth (by decide) rfl (pw_e1 (pw_cat_rf _) (pw_e0 (n := 0))) H
theorem s_J5_toString_0 {E : pw_E} {d : Nat} {w : pw_W} {Post : pw_R → pw_W → Prop} (v0 : Option Nat) (H : (fun w1 => pw_Cl E m_J6_init d (va_rf (some w.2.1) :: [va_rf v0]) w1 (c_v (fun w2 => Post (.inl (some (va_rf (some w.2.1)))) w2))) (pw_new w (21, [va_rf none, .int 0, .int 0, .int 0]) 4)) : pw_Wp E m_J5_toString (d + 1) 0 [some (va_rf v0)] [] w Post := by
  refine r_new (M := m_J5_toString) (pc := 0) dJ5_toString_0 21 _ rfl (Nat.le_of_ble_eq_true rfl) q468 q469 q146 [va_rf none, .int 0, .int 0, .int 0] rfl 4 rfl ?_
  refine r_dup (M := m_J5_toString) (pc := 3) dJ5_toString_3 (pw_cat_rf _) ?_
  refine r_aload_n (M := m_J5_toString) (pc := 4) dJ5_toString_4 0 rfl rfl ?_
  refine r_I (M := m_J5_toString) (pc := 5) dJ5_toString_5 m_J6_init k_J6_init rfl rfl q470 q471 (av := [va_rf _]) (dy := d) n_J6_init rfl (pw_c4 (Nat.le_of_ble_eq_true rfl)) (Nat.le_refl _) (H.mono (pw_nx_v (fun w2 H1 => ?_)))
  replace H := H1; clear H1
  exact r_areturn (M := m_J5_toString) (pc := 8) dJ5_toString_8 rfl (by simp) H
theorem e_J5_toString {E : pw_E} {d : Nat} {w : pw_W} {Post : pw_R → pw_W → Prop} (v0 : Option Nat) (H : pw_Wp E m_J5_toString d 0 [some (va_rf v0)] [] w Post) : pw_Cl E m_J5_toString d [va_rf v0] w Post := pw_meth (by decide) rfl (pw_e1 (pw_cat_rf _) (pw_e0 (n := 0))) H
theorem s_J6_charAt_0 {E : pw_E} {d : Nat} {w : pw_W} {Post : pw_R → pw_W → Prop} (v0 : Option Nat) (v1 : Int32) (H : f_V E w v0 21 m_J6_isLatin1 d [] (c_z (fun b2 w1 => (if (bI b2) = 0 then f_getr w1 v0 21 0 (fun x6 => pw_Cl E m_J7_charAt d [va_rf x6, .int v1] w1 (c_i (fun x11 w10 => (narrow .char (.int x11) = .int x11 ∧ Post (.inl (some (.int x11))) w10)))) else f_getr w1 v0 21 0 (fun x12 => pw_Cl E m_J11_charAt d [va_rf x12, .int v1] w1 (c_i (fun x17 w16 => (narrow .char (.int x17) = .int x17 ∧ Post (.inl (some (.int x17))) w16)))))))) : pw_Wp E m_J6_charAt (d + 1) 0 [some (va_rf v0), some (.int v1)] [] w Post := by
  refine r_aload_n (M := m_J6_charAt) (pc := 0) dJ6_charAt_0 0 rfl rfl ?_
  obtain ⟨a3, us4, e9, h5, H⟩ := H; cases e9
  refine r_V (M := m_J6_charAt) (pc := 1) dJ6_charAt_1 m_J6_isLatin1 k_J6_isLatin1 q1918 q1919 21 _ rfl q1920 (av := []) (dy := d) n_J6_isLatin1 h5 rfl (pw_c4 (Nat.le_of_ble_eq_true rfl)) (Nat.le_refl _) (H.mono (pw_nx_z (fun b2 w1 H1 => ?_)))
  replace H := H1; clear H1
  refine r_if_eq (M := m_J6_charAt) (pc := 4) dJ6_charAt_4 16 (by decide) (fun hc => ?_) (fun hc => ?_)
  · replace H := f_it H hc
    refine r_aload_n (M := m_J6_charAt) (pc := 16) dJ6_charAt_16 0 rfl rfl ?_
    obtain ⟨a7, fs8, x6, e9, h9, h9v, H⟩ := H; cases e9
    refine r_get (M := m_J6_charAt) (pc := 17) dJ6_charAt_17 "java/lang/String" 21 0 _ rfl (Nat.le_of_ble_eq_true rfl) q507 (Or.inl rfl) h9 (Nat.le_of_ble_eq_true rfl) h9v ?_
    refine r_iload_n (M := m_J6_charAt) (pc := 20) dJ6_charAt_20 1 rfl rfl ?_
    refine r_S (M := m_J6_charAt) (pc := 21) dJ6_charAt_21 m_J7_charAt k_J7_charAt q1926 q1927 (av := [va_rf _, .int _]) (dy := d) n_J7_charAt rfl (pw_c4 (Nat.le_of_ble_eq_true rfl)) (Nat.le_refl _) (H.mono (pw_nx_i (fun x11 w10 H1 => ?_)))
    replace H := H1; clear H1
    exact r_zreturn (M := m_J6_charAt) (pc := 24) dJ6_charAt_24 rfl H.1 H.2
  · replace H := f_if H hc
    refine r_aload_n (M := m_J6_charAt) (pc := 7) dJ6_charAt_7 0 rfl rfl ?_
    obtain ⟨a13, fs14, x12, e9, h15, h15v, H⟩ := H; cases e9
    refine r_get (M := m_J6_charAt) (pc := 8) dJ6_charAt_8 "java/lang/String" 21 0 _ rfl (Nat.le_of_ble_eq_true rfl) q507 (Or.inl rfl) h15 (Nat.le_of_ble_eq_true rfl) h15v ?_
    refine r_iload_n (M := m_J6_charAt) (pc := 11) dJ6_charAt_11 1 rfl rfl ?_
    refine r_S (M := m_J6_charAt) (pc := 12) dJ6_charAt_12 m_J11_charAt k_J11_charAt q1922 q1923 (av := [va_rf _, .int _]) (dy := d) n_J11_charAt rfl (pw_c4 (Nat.le_of_ble_eq_true rfl)) (Nat.le_refl _) (H.mono (pw_nx_i (fun x17 w16 H1 => ?_)))
    replace H := H1; clear H1
    exact r_zreturn (M := m_J6_charAt) (pc := 15) dJ6_charAt_15 rfl H.1 H.2
theorem e_J6_charAt {E : pw_E} {d : Nat} {w : pw_W} {Post : pw_R → pw_W → Prop} (v0 : Option Nat) (v1 : Int32) (H : pw_Wp E m_J6_charAt d 0 [some (va_rf v0), some (.int v1)] [] w Post) : pw_Cl E m_J6_charAt d [va_rf v0, .int v1] w Post := pw_meth (by decide) rfl (pw_e1 (pw_cat_rf _) (pw_e1 rfl (pw_e0 (n := 0)))) H
theorem s_J6_checkBoundsOffCount_0 {E : pw_E} {d : Nat} {w : pw_W} {Post : pw_R → pw_W → Prop} (v0 : Int32) (v1 : Int32) (v2 : Int32) (H : f_str E 3 (fun x1 => pw_Cl E m_J12_checkFromIndexSize d [.int v0, .int v1, .int v2, va_rf x1] w (c_i (fun x4 w3 => Post (.inl (some (.int x4))) w3)))) : pw_Wp E m_J6_checkBoundsOffCount (d + 1) 0 [some (.int v0), some (.int v1), some (.int v2)] [] w Post := by
  refine r_iload_n (M := m_J6_checkBoundsOffCount) (pc := 0) dJ6_checkBoundsOffCount_0 0 rfl rfl ?_
  refine r_iload_n (M := m_J6_checkBoundsOffCount) (pc := 1) dJ6_checkBoundsOffCount_1 1 rfl rfl ?_
  refine r_iload_n (M := m_J6_checkBoundsOffCount) (pc := 2) dJ6_checkBoundsOffCount_2 2 rfl rfl ?_
  obtain ⟨x1, h2, H⟩ := H
  refine r_getstatic (M := m_J6_checkBoundsOffCount) (pc := 3) dJ6_checkBoundsOffCount_3 3 _ rfl q438 h2 ?_
  refine r_S (M := m_J6_checkBoundsOffCount) (pc := 6) dJ6_checkBoundsOffCount_6 m_J12_checkFromIndexSize k_J12_checkFromIndexSize q440 q441 (av := [.int _, .int _, .int _, va_rf _]) (dy := d) n_J12_checkFromIndexSize rfl (pw_c4 (Nat.le_of_ble_eq_true rfl)) (Nat.le_refl _) (H.mono (pw_nx_i (fun x4 w3 H1 => ?_)))
  replace H := H1; clear H1
  exact r_ireturn (M := m_J6_checkBoundsOffCount) (pc := 9) dJ6_checkBoundsOffCount_9 rfl H
theorem e_J6_checkBoundsOffCount {E : pw_E} {d : Nat} {w : pw_W} {Post : pw_R → pw_W → Prop} (v0 : Int32) (v1 : Int32) (v2 : Int32) (H : pw_Wp E m_J6_checkBoundsOffCount d 0 [some (.int v0), some (.int v1), some (.int v2)] [] w Post) : pw_Cl E m_J6_checkBoundsOffCount d [.int v0, .int v1, .int v2] w Post := pw_meth (by decide) rfl (pw_e1 rfl (pw_e1 rfl (pw_e1 rfl (pw_e0 (n := 0))))) H
theorem s_J6_checkIndex_0 {E : pw_E} {d : Nat} {w : pw_W} {Post : pw_R → pw_W → Prop} (v0 : Int32) (v1 : Int32) (H : f_str E 3 (fun x1 => pw_Cl E m_J12_checkIndex d [.int v0, .int v1, va_rf x1] w (c_i (fun x4 w3 => Post (.inl none) w3)))) : pw_Wp E m_J6_checkIndex (d + 1) 0 [some (.int v0), some (.int v1)] [] w Post := by
  refine r_iload_n (M := m_J6_checkIndex) (pc := 0) dJ6_checkIndex_0 0 rfl rfl ?_
  refine r_iload_n (M := m_J6_checkIndex) (pc := 1) dJ6_checkIndex_1 1 rfl rfl ?_
  obtain ⟨x1, h2, H⟩ := H
  refine r_getstatic (M := m_J6_checkIndex) (pc := 2) dJ6_checkIndex_2 3 _ rfl q438 h2 ?_
  refine r_S (M := m_J6_checkIndex) (pc := 5) dJ6_checkIndex_5 m_J12_checkIndex k_J12_checkIndex q461 q462 (av := [.int _, .int _, va_rf _]) (dy := d) n_J12_checkIndex rfl (pw_c4 (Nat.le_of_ble_eq_true rfl)) (Nat.le_refl _) (H.mono (pw_nx_i (fun x4 w3 H1 => ?_)))
  replace H := H1; clear H1
  refine r_pop (M := m_J6_checkIndex) (pc := 8) dJ6_checkIndex_8 rfl ?_
  exact r_return (M := m_J6_checkIndex) (pc := 9) dJ6_checkIndex_9 rfl H
theorem e_J6_checkIndex {E : pw_E} {d : Nat} {w : pw_W} {Post : pw_R → pw_W → Prop} (v0 : Int32) (v1 : Int32) (H : pw_Wp E m_J6_checkIndex d 0 [some (.int v0), some (.int v1)] [] w Post) : pw_Cl E m_J6_checkIndex d [.int v0, .int v1] w Post := pw_meth (by decide) rfl (pw_e1 rfl (pw_e1 rfl (pw_e0 (n := 0)))) H
theorem s_J6_checkOffset_0 {E : pw_E} {d : Nat} {w : pw_W} {Post : pw_R → pw_W → Prop} (v0 : Int32) (v1 : Int32) (H : f_str E 3 (fun x1 => pw_Cl E m_J12_checkFromToIndex d [.int v0, .int v1, .int v1, va_rf x1] w (c_i (fun x4 w3 => Post (.inl none) w3)))) : pw_Wp E m_J6_checkOffset (d + 1) 0 [some (.int v0), some (.int v1)] [] w Post := by
  refine r_iload_n (M := m_J6_checkOffset) (pc := 0) dJ6_checkOffset_0 0 rfl rfl ?_
  refine r_iload_n (M := m_J6_checkOffset) (pc := 1) dJ6_checkOffset_1 1 rfl rfl ?_
  refine r_iload_n (M := m_J6_checkOffset) (pc := 2) dJ6_checkOffset_2 1 rfl rfl ?_
  obtain ⟨x1, h2, H⟩ := H
  refine r_getstatic (M := m_J6_checkOffset) (pc := 3) dJ6_checkOffset_3 3 _ rfl q438 h2 ?_
  refine r_S (M := m_J6_checkOffset) (pc := 6) dJ6_checkOffset_6 m_J12_checkFromToIndex k_J12_checkFromToIndex q1628 q1629 (av := [.int _, .int _, .int _, va_rf _]) (dy := d) n_J12_checkFromToIndex rfl (pw_c4 (Nat.le_of_ble_eq_true rfl)) (Nat.le_refl _) (H.mono (pw_nx_i (fun x4 w3 H1 => ?_)))
  replace H := H1; clear H1
  refine r_pop (M := m_J6_checkOffset) (pc := 9) dJ6_checkOffset_9 rfl ?_
  exact r_return (M := m_J6_checkOffset) (pc := 10) dJ6_checkOffset_10 rfl H
theorem e_J6_checkOffset {E : pw_E} {d : Nat} {w : pw_W} {Post : pw_R → pw_W → Prop} (v0 : Int32) (v1 : Int32) (H : pw_Wp E m_J6_checkOffset d 0 [some (.int v0), some (.int v1)] [] w Post) : pw_Cl E m_J6_checkOffset d [.int v0, .int v1] w Post := pw_meth (by decide) rfl (pw_e1 rfl (pw_e1 rfl (pw_e0 (n := 0)))) H
theorem s_J6_coder_0 {E : pw_E} {d : Nat} {w : pw_W} {Post : pw_R → pw_W → Prop} (v0 : Option Nat) (H : f_sti E 2 (fun x1 => (if x1 = 0 then Post (.inl (some (.int 1))) w else f_geti w v0 21 1 (fun x3 => (narrow .byte (.int x3) = .int x3 ∧ Post (.inl (some (.int x3))) w))))) : pw_Wp E m_J6_coder (d + 1) 0 [some (va_rf v0)] [] w Post := by
  obtain ⟨x1, h2, H⟩ := H
  refine r_getstatic (M := m_J6_coder) (pc := 0) dJ6_coder_0 2 _ rfl q493 h2 ?_
  refine r_if_eq (M := m_J6_coder) (pc := 3) dJ6_coder_3 13 (by decide) (fun hc => ?_) (fun hc => ?_)
  · replace H := f_it H hc
    refine r_iconst (M := m_J6_coder) (pc := 13) dJ6_coder_13 1 rfl ?_
    exact r_zreturn (M := m_J6_coder) (pc := 14) dJ6_coder_14 rfl rfl H
  · replace H := f_if H hc
    refine r_aload_n (M := m_J6_coder) (pc := 6) dJ6_coder_6 0 rfl rfl ?_
    obtain ⟨a4, fs5, x3, e9, h6, h6v, H⟩ := H; cases e9
    refine r_get (M := m_J6_coder) (pc := 7) dJ6_coder_7 "java/lang/String" 21 1 _ rfl (Nat.le_of_ble_eq_true rfl) q508 (Or.inl rfl) h6 (Nat.le_of_ble_eq_true rfl) h6v ?_
    refine r_goto (M := m_J6_coder) (pc := 10) dJ6_coder_10 14 (by decide) ?_
    exact r_zreturn (M := m_J6_coder) (pc := 14) dJ6_coder_14 rfl H.1 H.2
theorem e_J6_coder {E : pw_E} {d : Nat} {w : pw_W} {Post : pw_R → pw_W → Prop} (v0 : Option Nat) (H : pw_Wp E m_J6_coder d 0 [some (va_rf v0)] [] w Post) : pw_Cl E m_J6_coder d [va_rf v0] w Post := pw_meth (by decide) rfl (pw_e1 (pw_cat_rf _) (pw_e0 (n := 0))) H
theorem s_J6_compareTo_0 {E : pw_E} {d : Nat} {w : pw_W} {Post : pw_R → pw_W → Prop} (v0 : Option Nat) (v1 : Option Nat) (H : f_cast w v1 "java/lang/String" (f_V E w v0 21 m_J6_compareTo_2 d [va_rf v1] (c_i (fun x2 w1 => Post (.inl (some (.int x2))) w1)))) : pw_Wp E m_J6_compareTo (d + 1) 0 [some (va_rf v0), some (va_rf v1)] [] w Post := by
  refine r_aload_n (M := m_J6_compareTo) (pc := 0) dJ6_compareTo_0 0 rfl rfl ?_
  refine r_aload_n (M := m_J6_compareTo) (pc := 1) dJ6_compareTo_1 1 rfl rfl ?_
  obtain ⟨hk, H⟩ := H
  refine r_cast (M := m_J6_compareTo) (pc := 2) dJ6_compareTo_2 "java/lang/String" q613 hk ?_
  obtain ⟨a3, us4, e9, h5, H⟩ := H; cases e9
  refine r_V (M := m_J6_compareTo) (pc := 5) dJ6_compareTo_5 m_J6_compareTo_2 k_J6_compareTo_2 q1464 q1465 21 _ rfl q1466 (av := [va_rf _]) (dy := d) n_J6_compareTo_2 h5 rfl (pw_c4 (Nat.le_of_ble_eq_true rfl)) (Nat.le_refl _) (H.mono (pw_nx_i (fun x2 w1 H1 => ?_)))
  replace H := H1; clear H1
  exact r_ireturn (M := m_J6_compareTo) (pc := 8) dJ6_compareTo_8 rfl H
theorem e_J6_compareTo {E : pw_E} {d : Nat} {w : pw_W} {Post : pw_R → pw_W → Prop} (v0 : Option Nat) (v1 : Option Nat) (H : pw_Wp E m_J6_compareTo d 0 [some (va_rf v0), some (va_rf v1)] [] w Post) : pw_Cl E m_J6_compareTo d [va_rf v0, va_rf v1] w Post := pw_meth (by decide) rfl (pw_e1 (pw_cat_rf _) (pw_e1 (pw_cat_rf _) (pw_e0 (n := 0)))) H
theorem s_J6_compareTo_2_0 {E : pw_E} {d : Nat} {w : pw_W} {Post : pw_R → pw_W → Prop} (v0 : Option Nat) (v1 : Option Nat) (H : f_getr w v0 21 0 (fun x1 => f_getr w v1 21 0 (fun x5 => f_V E w v0 21 m_J6_coder d [] (c_i (fun x10 w9 => f_V E w9 v1 21 m_J6_coder d [] (c_i (fun x15 w14 => (if x10 = x15 then (if x10 = 0 then pw_Cl E m_J11_compareTo d [va_rf x1, va_rf x5] w14 (c_i (fun x26 w25 => Post (.inl (some (.int x26))) w25)) else pw_Cl E m_J7_compareTo d [va_rf x1, va_rf x5] w14 (c_i (fun x24 w23 => Post (.inl (some (.int x24))) w23))) else (if x10 = 0 then pw_Cl E m_J11_compareToUTF16 d [va_rf x1, va_rf x5] w14 (c_i (fun x22 w21 => Post (.inl (some (.int x22))) w21)) else pw_Cl E m_J7_compareToLatin1 d [va_rf x1, va_rf x5] w14 (c_i (fun x20 w19 => Post (.inl (some (.int x20))) w19))))))))))) : pw_Wp E m_J6_compareTo_2 (d + 1) 0 [some (va_rf v0), some (va_rf v1), none, none, none] [] w Post := by
  refine r_aload_n (M := m_J6_compareTo_2) (pc := 0) dJ6_compareTo_2_0 0 rfl rfl ?_
  obtain ⟨a2, fs3, x1, e9, h4, h4v, H⟩ := H; cases e9
  refine r_get (M := m_J6_compareTo_2) (pc := 1) dJ6_compareTo_2_1 "java/lang/String" 21 0 _ rfl (Nat.le_of_ble_eq_true rfl) q507 (Or.inl rfl) h4 (Nat.le_of_ble_eq_true rfl) h4v ?_
  refine r_astore_n (M := m_J6_compareTo_2) (pc := 4) dJ6_compareTo_2_4 2 rfl (Nat.le_of_ble_eq_true rfl) (pw_pre_rf rfl) ?_
  refine r_aload_n (M := m_J6_compareTo_2) (pc := 5) dJ6_compareTo_2_5 1 rfl rfl ?_
  obtain ⟨a6, fs7, x5, e9, h8, h8v, H⟩ := H; cases e9
  refine r_get (M := m_J6_compareTo_2) (pc := 6) dJ6_compareTo_2_6 "java/lang/String" 21 0 _ rfl (Nat.le_of_ble_eq_true rfl) q507 (Or.inl rfl) h8 (Nat.le_of_ble_eq_true rfl) h8v ?_
  refine r_astore_n (M := m_J6_compareTo_2) (pc := 9) dJ6_compareTo_2_9 3 rfl (Nat.le_of_ble_eq_true rfl) (pw_pre_rf rfl) ?_
  refine r_aload_n (M := m_J6_compareTo_2) (pc := 10) dJ6_compareTo_2_10 0 rfl rfl ?_
  obtain ⟨a11, us12, e9, h13, H⟩ := H; cases e9
  refine r_V (M := m_J6_compareTo_2) (pc := 11) dJ6_compareTo_2_11 m_J6_coder k_J6_coder q756 q757 21 _ rfl q758 (av := []) (dy := d) n_J6_coder h13 rfl (pw_c4 (Nat.le_of_ble_eq_true rfl)) (Nat.le_refl _) (H.mono (pw_nx_i (fun x10 w9 H1 => ?_)))
  replace H := H1; clear H1
  refine r_istore (M := m_J6_compareTo_2) (pc := 14) dJ6_compareTo_2_14 (Nat.le_of_ble_eq_true rfl) (pw_pre_rf rfl) ?_
  refine r_iload (M := m_J6_compareTo_2) (pc := 16) dJ6_compareTo_2_16 rfl ?_
  refine r_aload_n (M := m_J6_compareTo_2) (pc := 18) dJ6_compareTo_2_18 1 rfl rfl ?_
  obtain ⟨a16, us17, e9, h18, H⟩ := H; cases e9
  refine r_V (M := m_J6_compareTo_2) (pc := 19) dJ6_compareTo_2_19 m_J6_coder k_J6_coder q756 q757 21 _ rfl q758 (av := []) (dy := d) n_J6_coder h18 rfl (pw_c4 (Nat.le_of_ble_eq_true rfl)) (Nat.le_refl _) (H.mono (pw_nx_i (fun x15 w14 H1 => ?_)))
  replace H := H1; clear H1
  refine r_icmp_ne (M := m_J6_compareTo_2) (pc := 22) dJ6_compareTo_2_22 44 (by decide) (fun hc => ?_) (fun hc => ?_)
  · replace H := f_if H hc
    refine r_iload (M := m_J6_compareTo_2) (pc := 44) dJ6_compareTo_2_44 rfl ?_
    refine r_if_ne (M := m_J6_compareTo_2) (pc := 46) dJ6_compareTo_2_46 57 (by decide) (fun hc => ?_) (fun hc => ?_)
    · replace H := f_if H hc
      refine r_aload_n (M := m_J6_compareTo_2) (pc := 57) dJ6_compareTo_2_57 2 rfl rfl ?_
      refine r_aload_n (M := m_J6_compareTo_2) (pc := 58) dJ6_compareTo_2_58 3 rfl rfl ?_
      refine r_S (M := m_J6_compareTo_2) (pc := 59) dJ6_compareTo_2_59 m_J7_compareToLatin1 k_J7_compareToLatin1 q1600 q1601 (av := [va_rf _, va_rf _]) (dy := d) n_J7_compareToLatin1 rfl (pw_c4 (Nat.le_of_ble_eq_true rfl)) (Nat.le_refl _) (H.mono (pw_nx_i (fun x20 w19 H1 => ?_)))
      replace H := H1; clear H1
      exact r_ireturn (M := m_J6_compareTo_2) (pc := 62) dJ6_compareTo_2_62 rfl H
    · replace H := f_it H hc
      refine r_aload_n (M := m_J6_compareTo_2) (pc := 49) dJ6_compareTo_2_49 2 rfl rfl ?_
      refine r_aload_n (M := m_J6_compareTo_2) (pc := 50) dJ6_compareTo_2_50 3 rfl rfl ?_
      refine r_S (M := m_J6_compareTo_2) (pc := 51) dJ6_compareTo_2_51 m_J11_compareToUTF16 k_J11_compareToUTF16 q1589 q1590 (av := [va_rf _, va_rf _]) (dy := d) n_J11_compareToUTF16 rfl (pw_c4 (Nat.le_of_ble_eq_true rfl)) (Nat.le_refl _) (H.mono (pw_nx_i (fun x22 w21 H1 => ?_)))
      replace H := H1; clear H1
      refine r_goto (M := m_J6_compareTo_2) (pc := 54) dJ6_compareTo_2_54 62 (by decide) ?_
      exact r_ireturn (M := m_J6_compareTo_2) (pc := 62) dJ6_compareTo_2_62 rfl H
  · replace H := f_it H hc
    refine r_iload (M := m_J6_compareTo_2) (pc := 25) dJ6_compareTo_2_25 rfl ?_
    refine r_if_ne (M := m_J6_compareTo_2) (pc := 27) dJ6_compareTo_2_27 38 (by decide) (fun hc => ?_) (fun hc => ?_)
    · replace H := f_if H hc
      refine r_aload_n (M := m_J6_compareTo_2) (pc := 38) dJ6_compareTo_2_38 2 rfl rfl ?_
      refine r_aload_n (M := m_J6_compareTo_2) (pc := 39) dJ6_compareTo_2_39 3 rfl rfl ?_
      refine r_S (M := m_J6_compareTo_2) (pc := 40) dJ6_compareTo_2_40 m_J7_compareTo k_J7_compareTo q1582 q1583 (av := [va_rf _, va_rf _]) (dy := d) n_J7_compareTo rfl (pw_c4 (Nat.le_of_ble_eq_true rfl)) (Nat.le_refl _) (H.mono (pw_nx_i (fun x24 w23 H1 => ?_)))
      replace H := H1; clear H1
      exact r_ireturn (M := m_J6_compareTo_2) (pc := 43) dJ6_compareTo_2_43 rfl H
    · replace H := f_it H hc
      refine r_aload_n (M := m_J6_compareTo_2) (pc := 30) dJ6_compareTo_2_30 2 rfl rfl ?_
      refine r_aload_n (M := m_J6_compareTo_2) (pc := 31) dJ6_compareTo_2_31 3 rfl rfl ?_
      refine r_S (M := m_J6_compareTo_2) (pc := 32) dJ6_compareTo_2_32 m_J11_compareTo k_J11_compareTo q1468 q1469 (av := [va_rf _, va_rf _]) (dy := d) n_J11_compareTo rfl (pw_c4 (Nat.le_of_ble_eq_true rfl)) (Nat.le_refl _) (H.mono (pw_nx_i (fun x26 w25 H1 => ?_)))
      replace H := H1; clear H1
      refine r_goto (M := m_J6_compareTo_2) (pc := 35) dJ6_compareTo_2_35 43 (by decide) ?_
      exact r_ireturn (M := m_J6_compareTo_2) (pc := 43) dJ6_compareTo_2_43 rfl H
theorem e_J6_compareTo_2 {E : pw_E} {d : Nat} {w : pw_W} {Post : pw_R → pw_W → Prop} (v0 : Option Nat) (v1 : Option Nat) (H : pw_Wp E m_J6_compareTo_2 d 0 [some (va_rf v0), some (va_rf v1), none, none, none] [] w Post) : pw_Cl E m_J6_compareTo_2 d [va_rf v0, va_rf v1] w Post := pw_meth (by decide) rfl (pw_e1 (pw_cat_rf _) (pw_e1 (pw_cat_rf _) (pw_e0 (n := 3)))) H
theorem s_J6_equals_0 {E : pw_E} {d : Nat} {w : pw_W} {Post : pw_R → pw_W → Prop} (v0 : Option Nat) (v1 : Option Nat) (H : (if v0 = v1 then Post (.inl (some (.int 1))) w else ((v1 = none ∧ Post (.inl (some (.int 0))) w) ∨ (f_isk w v1 "java/lang/String" ∧ f_cast w v1 "java/lang/String" (f_sti E 2 (fun x3 => (if x3 = 0 then f_getr w v0 21 0 (fun x5 => f_getr w v1 21 0 (fun x9 => pw_Cl E m_J11_equals d [va_rf x5, va_rf x9] w (c_z (fun b14 w13 => (if (bI b14) = 0 then Post (.inl (some (.int 0))) w13 else Post (.inl (some (.int 1))) w13))))) else f_geti w v0 21 1 (fun x15 => f_geti w v1 21 1 (fun x19 => (if x15 = x19 then f_getr w v0 21 0 (fun x23 => f_getr w v1 21 0 (fun x27 => pw_Cl E m_J11_equals d [va_rf x23, va_rf x27] w (c_z (fun b32 w31 => (if (bI b32) = 0 then Post (.inl (some (.int 0))) w31 else Post (.inl (some (.int 1))) w31))))) else Post (.inl (some (.int 0))) w)))))))))) : pw_Wp E m_J6_equals (d + 1) 0 [some (va_rf v0), some (va_rf v1), none] [] w Post := by
  refine r_aload_n (M := m_J6_equals) (pc := 0) dJ6_equals_0 0 rfl rfl ?_
  refine r_aload_n (M := m_J6_equals) (pc := 1) dJ6_equals_1 1 rfl rfl ?_
  refine r_acmp_ne (M := m_J6_equals) (pc := 2) dJ6_equals_2 7 (by decide) (fun hc => ?_) (fun hc => ?_)
  · replace H := f_if H hc
    refine r_aload_n (M := m_J6_equals) (pc := 7) dJ6_equals_7 1 rfl rfl ?_
    rcases H with ⟨e9, H⟩ | ⟨⟨b9, k9, us9, r9, e9, i1, i2, i3⟩, H⟩
    · cases e9
      refine r_instN (M := m_J6_equals) (pc := 8) dJ6_equals_8 ?_
      refine r_if_eq (M := m_J6_equals) (pc := 11) dJ6_equals_11 54 (by decide) (fun hc => ?_) (fun hc => (hc (by decide)).elim)
      refine r_iconst (M := m_J6_equals) (pc := 54) dJ6_equals_54 0 rfl ?_
      exact r_zreturn (M := m_J6_equals) (pc := 55) dJ6_equals_55 rfl rfl H
    · cases e9
      refine r_instY (M := m_J6_equals) (pc := 8) dJ6_equals_8 "java/lang/String" q613 i1 r9 i2 i3 ?_
      refine r_if_eq (M := m_J6_equals) (pc := 11) dJ6_equals_11 54 (by decide) (fun hc => absurd hc (by decide)) (fun hc => ?_)
      refine r_aload_n (M := m_J6_equals) (pc := 14) dJ6_equals_14 1 rfl rfl ?_
      obtain ⟨hk, H⟩ := H
      refine r_cast (M := m_J6_equals) (pc := 15) dJ6_equals_15 "java/lang/String" q613 hk ?_
      refine r_astore_n (M := m_J6_equals) (pc := 18) dJ6_equals_18 2 rfl (Nat.le_of_ble_eq_true rfl) (pw_pre_rf rfl) ?_
      obtain ⟨x3, h4, H⟩ := H
      refine r_getstatic (M := m_J6_equals) (pc := 19) dJ6_equals_19 2 _ rfl q493 h4 ?_
      refine r_if_eq (M := m_J6_equals) (pc := 22) dJ6_equals_22 36 (by decide) (fun hc => ?_) (fun hc => ?_)
      · replace H := f_it H hc
        refine r_aload_n (M := m_J6_equals) (pc := 36) dJ6_equals_36 0 rfl rfl ?_
        obtain ⟨a6, fs7, x5, e9, h8, h8v, H⟩ := H; cases e9
        refine r_get (M := m_J6_equals) (pc := 37) dJ6_equals_37 "java/lang/String" 21 0 _ rfl (Nat.le_of_ble_eq_true rfl) q507 (Or.inl rfl) h8 (Nat.le_of_ble_eq_true rfl) h8v ?_
        refine r_aload_n (M := m_J6_equals) (pc := 40) dJ6_equals_40 2 rfl rfl ?_
        obtain ⟨a10, fs11, x9, e9, h12, h12v, H⟩ := H; cases e9
        refine r_get (M := m_J6_equals) (pc := 41) dJ6_equals_41 "java/lang/String" 21 0 _ rfl (Nat.le_of_ble_eq_true rfl) q507 (Or.inl rfl) h12 (Nat.le_of_ble_eq_true rfl) h12v ?_
        refine r_S (M := m_J6_equals) (pc := 44) dJ6_equals_44 m_J11_equals k_J11_equals q614 q615 (av := [va_rf _, va_rf _]) (dy := d) n_J11_equals rfl (pw_c4 (Nat.le_of_ble_eq_true rfl)) (Nat.le_refl _) (H.mono (pw_nx_z (fun b14 w13 H1 => ?_)))
        replace H := H1; clear H1
        refine r_if_eq (M := m_J6_equals) (pc := 47) dJ6_equals_47 54 (by decide) (fun hc => ?_) (fun hc => ?_)
        · replace H := f_it H hc
          refine r_iconst (M := m_J6_equals) (pc := 54) dJ6_equals_54 0 rfl ?_
          exact r_zreturn (M := m_J6_equals) (pc := 55) dJ6_equals_55 rfl rfl H
        · replace H := f_if H hc
          refine r_iconst (M := m_J6_equals) (pc := 50) dJ6_equals_50 1 rfl ?_
          refine r_goto (M := m_J6_equals) (pc := 51) dJ6_equals_51 55 (by decide) ?_
          exact r_zreturn (M := m_J6_equals) (pc := 55) dJ6_equals_55 rfl rfl H
      · replace H := f_if H hc
        refine r_aload_n (M := m_J6_equals) (pc := 25) dJ6_equals_25 0 rfl rfl ?_
        obtain ⟨a16, fs17, x15, e9, h18, h18v, H⟩ := H; cases e9
        refine r_get (M := m_J6_equals) (pc := 26) dJ6_equals_26 "java/lang/String" 21 1 _ rfl (Nat.le_of_ble_eq_true rfl) q508 (Or.inl rfl) h18 (Nat.le_of_ble_eq_true rfl) h18v ?_
        refine r_aload_n (M := m_J6_equals) (pc := 29) dJ6_equals_29 2 rfl rfl ?_
        obtain ⟨a20, fs21, x19, e9, h22, h22v, H⟩ := H; cases e9
        refine r_get (M := m_J6_equals) (pc := 30) dJ6_equals_30 "java/lang/String" 21 1 _ rfl (Nat.le_of_ble_eq_true rfl) q508 (Or.inl rfl) h22 (Nat.le_of_ble_eq_true rfl) h22v ?_
        refine r_icmp_ne (M := m_J6_equals) (pc := 33) dJ6_equals_33 54 (by decide) (fun hc => ?_) (fun hc => ?_)
        · replace H := f_if H hc
          refine r_iconst (M := m_J6_equals) (pc := 54) dJ6_equals_54 0 rfl ?_
          exact r_zreturn (M := m_J6_equals) (pc := 55) dJ6_equals_55 rfl rfl H
        · replace H := f_it H hc
          refine r_aload_n (M := m_J6_equals) (pc := 36) dJ6_equals_36 0 rfl rfl ?_
          obtain ⟨a24, fs25, x23, e9, h26, h26v, H⟩ := H; cases e9
          refine r_get (M := m_J6_equals) (pc := 37) dJ6_equals_37 "java/lang/String" 21 0 _ rfl (Nat.le_of_ble_eq_true rfl) q507 (Or.inl rfl) h26 (Nat.le_of_ble_eq_true rfl) h26v ?_
          refine r_aload_n (M := m_J6_equals) (pc := 40) dJ6_equals_40 2 rfl rfl ?_
          obtain ⟨a28, fs29, x27, e9, h30, h30v, H⟩ := H; cases e9
          refine r_get (M := m_J6_equals) (pc := 41) dJ6_equals_41 "java/lang/String" 21 0 _ rfl (Nat.le_of_ble_eq_true rfl) q507 (Or.inl rfl) h30 (Nat.le_of_ble_eq_true rfl) h30v ?_
          refine r_S (M := m_J6_equals) (pc := 44) dJ6_equals_44 m_J11_equals k_J11_equals q614 q615 (av := [va_rf _, va_rf _]) (dy := d) n_J11_equals rfl (pw_c4 (Nat.le_of_ble_eq_true rfl)) (Nat.le_refl _) (H.mono (pw_nx_z (fun b32 w31 H1 => ?_)))
          replace H := H1; clear H1
          refine r_if_eq (M := m_J6_equals) (pc := 47) dJ6_equals_47 54 (by decide) (fun hc => ?_) (fun hc => ?_)
          · replace H := f_it H hc
            refine r_iconst (M := m_J6_equals) (pc := 54) dJ6_equals_54 0 rfl ?_
            exact r_zreturn (M := m_J6_equals) (pc := 55) dJ6_equals_55 rfl rfl H
          · replace H := f_if H hc
            refine r_iconst (M := m_J6_equals) (pc := 50) dJ6_equals_50 1 rfl ?_
            refine r_goto (M := m_J6_equals) (pc := 51) dJ6_equals_51 55 (by decide) ?_
            exact r_zreturn (M := m_J6_equals) (pc := 55) dJ6_equals_55 rfl rfl H
  · replace H := f_it H hc
    refine r_iconst (M := m_J6_equals) (pc := 5) dJ6_equals_5 1 rfl ?_
    exact r_zreturn (M := m_J6_equals) (pc := 6) dJ6_equals_6 rfl rfl H
theorem e_J6_equals {E : pw_E} {d : Nat} {w : pw_W} {Post : pw_R → pw_W → Prop} (v0 : Option Nat) (v1 : Option Nat) (H : pw_Wp E m_J6_equals d 0 [some (va_rf v0), some (va_rf v1), none] [] w Post) : pw_Cl E m_J6_equals d [va_rf v0, va_rf v1] w Post := pw_meth (by decide) rfl (pw_e1 (pw_cat_rf _) (pw_e1 (pw_cat_rf _) (pw_e0 (n := 1)))) H
theorem s_J6_init_0 {E : pw_E} {d : Nat} {w : pw_W} {Post : pw_R → pw_W → Prop} (a0 : Nat) (v1 : Option Nat) (H : pw_Cl E m_J6_init_2 d (va_rf (some a0) :: [va_rf v1, va_rf none]) w (c_v (fun w1 => Post (.inl none) w1))) : pw_Wp E m_J6_init (d + 1) 0 [some (va_rf (some a0)), some (va_rf v1)] [] w Post := by
  refine r_aload_n (M := m_J6_init) (pc := 0) dJ6_init_0 0 rfl rfl ?_
  refine r_aload_n (M := m_J6_init) (pc := 1) dJ6_init_1 1 rfl rfl ?_
  refine r_null (M := m_J6_init) (pc := 2) dJ6_init_2 ?_
  refine r_I (M := m_J6_init) (pc := 3) dJ6_init_3 m_J6_init_2 k_J6_init_2 rfl rfl q473 q474 (av := [va_rf _, va_rf _]) (dy := d) n_J6_init_2 rfl (pw_c4 (Nat.le_of_ble_eq_true rfl)) (Nat.le_refl _) (H.mono (pw_nx_v (fun w1 H1 => ?_)))
  replace H := H1; clear H1
  exact r_return (M := m_J6_init) (pc := 6) dJ6_init_6 rfl H
theorem e_J6_init {E : pw_E} {d : Nat} {w : pw_W} {Post : pw_R → pw_W → Prop} (a0 : Nat) (v1 : Option Nat) (H : pw_Wp E m_J6_init d 0 [some (va_rf (some a0)), some (va_rf v1)] [] w Post) : pw_Cl E m_J6_init d [va_rf (some a0), va_rf v1] w Post := pw_meth (by decide) rfl (pw_e1 (pw_cat_rf _) (pw_e1 (pw_cat_rf _) (pw_e0 (n := 0)))) H
theorem s_J6_init_2_0 {E : pw_E} {d : Nat} {w : pw_W} {Post : pw_R → pw_W → Prop} (a0 : Nat) (v1 : Option Nat) (v2 : Option Nat) (H : f_V E w v1 20 m_J4_getValue d [] (c_r (fun o2 w1 => f_V E w1 v1 20 m_J5_length d [] (c_i (fun x7 w6 => f_V E w6 v1 20 m_J4_isLatin1 d [] (c_z (fun b12 w11 => (if (bI b12) = 0 then f_sti E 2 (fun x16 => (if x16 = 0 then f_put E w11 (some a0) 21 1 (.int 1) (fun w21 => pw_Cl E m_J10_copyOfRange d [va_rf o2, .int 0, .int (x7 <<< (1 &&& 31))] w21 (c_r (fun o23 w22 => f_put E w22 (some a0) 21 0 (va_rf o23) (fun w27 => Post (.inl none) w27)))) else f_geti w11 v1 20 2 (fun x28 => (if x28 = 0 then f_put E w11 (some a0) 21 1 (.int 1) (fun w35 => pw_Cl E m_J10_copyOfRange d [va_rf o2, .int 0, .int (x7 <<< (1 &&& 31))] w35 (c_r (fun o37 w36 => f_put E w36 (some a0) 21 0 (va_rf o37) (fun w41 => Post (.inl none) w41)))) else pw_Cl E m_J7_compress d [va_rf o2, .int 0, .int x7] w11 (c_r (fun o43 w42 => f_put E w42 (some a0) 21 0 (va_rf o43) (fun w47 => f_getr w47 (some a0) 21 0 (fun x48 => pw_Cl E m_J7_coderFromArrayLen d [va_rf x48, .int x7] w47 (c_i (fun x53 w52 => ((narrow .byte (.int x53) = .int x53 ∧ fits .byte (.int x53) = true) ∧ f_put E w52 (some a0) 21 1 (.int x53) (fun w57 => Post (.inl none) w57)))))))))))) else f_put E w11 (some a0) 21 1 (.int 0) (fun w61 => pw_Cl E m_J10_copyOfRange d [va_rf o2, .int 0, .int x7] w61 (c_r (fun o63 w62 => f_put E w62 (some a0) 21 0 (va_rf o63) (fun w67 => Post (.inl none) w67)))))))))))) : pw_Wp E m_J6_init_2 (d + 1) 0 [some (va_rf (some a0)), some (va_rf v1), some (va_rf v2), none, none] [] w Post := by
  refine r_aload_n (M := m_J6_init_2) (pc := 0) dJ6_init_2_0 0 rfl rfl ?_
  refine r_objInit (M := m_J6_init_2) (pc := 1) dJ6_init_2_1 q476 q197 q198 (Nat.succ_pos _) (Nat.le_of_ble_eq_true rfl) ?_
  refine r_aload_n (M := m_J6_init_2) (pc := 4) dJ6_init_2_4 1 rfl rfl ?_
  obtain ⟨a3, us4, e9, h5, H⟩ := H; cases e9
  refine r_V (M := m_J6_init_2) (pc := 5) dJ6_init_2_5 m_J4_getValue k_J4_getValue q477 q478 20 _ rfl q480 (av := []) (dy := d) n_J4_getValue h5 rfl (pw_c4 (Nat.le_of_ble_eq_true rfl)) (Nat.le_refl _) (H.mono (pw_nx_r (fun o2 w1 H1 => ?_)))
  replace H := H1; clear H1
  refine r_astore_n (M := m_J6_init_2) (pc := 8) dJ6_init_2_8 3 rfl (Nat.le_of_ble_eq_true rfl) (pw_pre_rf rfl) ?_
  refine r_aload_n (M := m_J6_init_2) (pc := 9) dJ6_init_2_9 1 rfl rfl ?_
  obtain ⟨a8, us9, e9, h10, H⟩ := H; cases e9
  refine r_U (M := m_J6_init_2) (pc := 10) dJ6_init_2_10 ⟨"java/lang/AbstractStringBuilder", "length", "()I"⟩ "java/lang/AbstractStringBuilder" m_J5_length k_J5_length q482 q3205 q363 20 _ rfl q3210 (Or.inr ⟨m_J4_length, rfl, k_J4_length.1, q367⟩) ⟨by decide +kernel, by decide +kernel⟩ (av := []) (dy := d) (pw_nyl (n := 0) (by decide +kernel)) h10 rfl (pw_c4 (Nat.le_of_ble_eq_true rfl)) (Nat.le_refl _) (H.mono (pw_nx_i (fun x7 w6 H1 => ?_)))
  replace H := H1; clear H1
  refine r_istore (M := m_J6_init_2) (pc := 13) dJ6_init_2_13 (Nat.le_of_ble_eq_true rfl) (pw_pre_rf rfl) ?_
  refine r_aload_n (M := m_J6_init_2) (pc := 15) dJ6_init_2_15 1 rfl rfl ?_
  obtain ⟨a13, us14, e9, h15, H⟩ := H; cases e9
  refine r_V (M := m_J6_init_2) (pc := 16) dJ6_init_2_16 m_J4_isLatin1 k_J4_isLatin1 q483 q412 20 _ rfl q414 (av := []) (dy := d) n_J4_isLatin1 h15 rfl (pw_c4 (Nat.le_of_ble_eq_true rfl)) (Nat.le_refl _) (H.mono (pw_nx_z (fun b12 w11 H1 => ?_)))
  replace H := H1; clear H1
  refine r_if_eq (M := m_J6_init_2) (pc := 19) dJ6_init_2_19 41 (by decide) (fun hc => ?_) (fun hc => ?_)
  · replace H := f_it H hc
    obtain ⟨x16, h17, H⟩ := H
    refine r_getstatic (M := m_J6_init_2) (pc := 41) dJ6_init_2_41 2 _ rfl q493 h17 ?_
    refine r_if_eq (M := m_J6_init_2) (pc := 44) dJ6_init_2_44 79 (by decide) (fun hc => ?_) (fun hc => ?_)
    · replace H := f_it H hc
      refine r_aload_n (M := m_J6_init_2) (pc := 79) dJ6_init_2_79 0 rfl rfl ?_
      refine r_iconst (M := m_J6_init_2) (pc := 80) dJ6_init_2_80 1 rfl ?_
      obtain ⟨a18, fs19, e9, h20, h20b, H⟩ := H; cases e9
      refine r_putF (M := m_J6_init_2) (pc := 81) dJ6_init_2_81 "java/lang/String" 21 1 _ rfl (Nat.le_of_ble_eq_true rfl) q508 (Or.inl rfl) rfl rfl rfl h20 (Nat.le_of_ble_eq_true rfl) h20b rfl rfl ?_
      refine r_aload_n (M := m_J6_init_2) (pc := 84) dJ6_init_2_84 0 rfl rfl ?_
      refine r_aload_n (M := m_J6_init_2) (pc := 85) dJ6_init_2_85 3 rfl rfl ?_
      refine r_iconst (M := m_J6_init_2) (pc := 86) dJ6_init_2_86 0 rfl ?_
      refine r_iload (M := m_J6_init_2) (pc := 87) dJ6_init_2_87 rfl ?_
      refine r_iconst (M := m_J6_init_2) (pc := 89) dJ6_init_2_89 1 rfl ?_
      refine r_ishl (M := m_J6_init_2) (pc := 90) dJ6_init_2_90 ?_
      refine r_S (M := m_J6_init_2) (pc := 91) dJ6_init_2_91 m_J10_copyOfRange k_J10_copyOfRange q484 q485 (av := [va_rf _, .int _, .int _]) (dy := d) n_J10_copyOfRange rfl (pw_c4 (Nat.le_of_ble_eq_true rfl)) (Nat.le_refl _) (H.mono (pw_nx_r (fun o23 w22 H1 => ?_)))
      replace H := H1; clear H1
      obtain ⟨a24, fs25, e9, h26, h26b, H⟩ := H; cases e9
      refine r_putF (M := m_J6_init_2) (pc := 94) dJ6_init_2_94 "java/lang/String" 21 0 _ rfl (Nat.le_of_ble_eq_true rfl) q507 (Or.inl rfl) rfl rfl rfl h26 (Nat.le_of_ble_eq_true rfl) h26b (nar_ra _ _) (fit_ra _ _) ?_
      exact r_return (M := m_J6_init_2) (pc := 97) dJ6_init_2_97 rfl H
    · replace H := f_if H hc
      refine r_aload_n (M := m_J6_init_2) (pc := 47) dJ6_init_2_47 1 rfl rfl ?_
      obtain ⟨a29, fs30, x28, e9, h31, h31v, H⟩ := H; cases e9
      refine r_get (M := m_J6_init_2) (pc := 48) dJ6_init_2_48 "java/lang/AbstractStringBuilder" 20 2 _ rfl (Nat.le_of_ble_eq_true rfl) q351 (Or.inl rfl) h31 (Nat.le_of_ble_eq_true rfl) h31v ?_
      refine r_if_eq (M := m_J6_init_2) (pc := 51) dJ6_init_2_51 79 (by decide) (fun hc => ?_) (fun hc => ?_)
      · replace H := f_it H hc
        refine r_aload_n (M := m_J6_init_2) (pc := 79) dJ6_init_2_79 0 rfl rfl ?_
        refine r_iconst (M := m_J6_init_2) (pc := 80) dJ6_init_2_80 1 rfl ?_
        obtain ⟨a32, fs33, e9, h34, h34b, H⟩ := H; cases e9
        refine r_putF (M := m_J6_init_2) (pc := 81) dJ6_init_2_81 "java/lang/String" 21 1 _ rfl (Nat.le_of_ble_eq_true rfl) q508 (Or.inl rfl) rfl rfl rfl h34 (Nat.le_of_ble_eq_true rfl) h34b rfl rfl ?_
        refine r_aload_n (M := m_J6_init_2) (pc := 84) dJ6_init_2_84 0 rfl rfl ?_
        refine r_aload_n (M := m_J6_init_2) (pc := 85) dJ6_init_2_85 3 rfl rfl ?_
        refine r_iconst (M := m_J6_init_2) (pc := 86) dJ6_init_2_86 0 rfl ?_
        refine r_iload (M := m_J6_init_2) (pc := 87) dJ6_init_2_87 rfl ?_
        refine r_iconst (M := m_J6_init_2) (pc := 89) dJ6_init_2_89 1 rfl ?_
        refine r_ishl (M := m_J6_init_2) (pc := 90) dJ6_init_2_90 ?_
        refine r_S (M := m_J6_init_2) (pc := 91) dJ6_init_2_91 m_J10_copyOfRange k_J10_copyOfRange q484 q485 (av := [va_rf _, .int _, .int _]) (dy := d) n_J10_copyOfRange rfl (pw_c4 (Nat.le_of_ble_eq_true rfl)) (Nat.le_refl _) (H.mono (pw_nx_r (fun o37 w36 H1 => ?_)))
        replace H := H1; clear H1
        obtain ⟨a38, fs39, e9, h40, h40b, H⟩ := H; cases e9
        refine r_putF (M := m_J6_init_2) (pc := 94) dJ6_init_2_94 "java/lang/String" 21 0 _ rfl (Nat.le_of_ble_eq_true rfl) q507 (Or.inl rfl) rfl rfl rfl h40 (Nat.le_of_ble_eq_true rfl) h40b (nar_ra _ _) (fit_ra _ _) ?_
        exact r_return (M := m_J6_init_2) (pc := 97) dJ6_init_2_97 rfl H
      · replace H := f_if H hc
        refine r_aload_n (M := m_J6_init_2) (pc := 54) dJ6_init_2_54 0 rfl rfl ?_
        refine r_aload_n (M := m_J6_init_2) (pc := 55) dJ6_init_2_55 3 rfl rfl ?_
        refine r_iconst (M := m_J6_init_2) (pc := 56) dJ6_init_2_56 0 rfl ?_
        refine r_iload (M := m_J6_init_2) (pc := 57) dJ6_init_2_57 rfl ?_
        refine r_S (M := m_J6_init_2) (pc := 59) dJ6_init_2_59 m_J7_compress k_J7_compress q494 q495 (av := [va_rf _, .int _, .int _]) (dy := d) n_J7_compress rfl (pw_c4 (Nat.le_of_ble_eq_true rfl)) (Nat.le_refl _) (H.mono (pw_nx_r (fun o43 w42 H1 => ?_)))
        replace H := H1; clear H1
        obtain ⟨a44, fs45, e9, h46, h46b, H⟩ := H; cases e9
        refine r_putF (M := m_J6_init_2) (pc := 62) dJ6_init_2_62 "java/lang/String" 21 0 _ rfl (Nat.le_of_ble_eq_true rfl) q507 (Or.inl rfl) rfl rfl rfl h46 (Nat.le_of_ble_eq_true rfl) h46b (nar_ra _ _) (fit_ra _ _) ?_
        refine r_aload_n (M := m_J6_init_2) (pc := 65) dJ6_init_2_65 0 rfl rfl ?_
        refine r_aload_n (M := m_J6_init_2) (pc := 66) dJ6_init_2_66 0 rfl rfl ?_
        obtain ⟨a49, fs50, x48, e9, h51, h51v, H⟩ := H; cases e9
        refine r_get (M := m_J6_init_2) (pc := 67) dJ6_init_2_67 "java/lang/String" 21 0 _ rfl (Nat.le_of_ble_eq_true rfl) q507 (Or.inl rfl) h51 (Nat.le_of_ble_eq_true rfl) h51v ?_
        refine r_iload (M := m_J6_init_2) (pc := 70) dJ6_init_2_70 rfl ?_
        refine r_S (M := m_J6_init_2) (pc := 72) dJ6_init_2_72 m_J7_coderFromArrayLen k_J7_coderFromArrayLen q504 q505 (av := [va_rf _, .int _]) (dy := d) n_J7_coderFromArrayLen rfl (pw_c4 (Nat.le_of_ble_eq_true rfl)) (Nat.le_refl _) (H.mono (pw_nx_i (fun x53 w52 H1 => ?_)))
        replace H := H1; clear H1
        obtain ⟨hn, H⟩ := H
        obtain ⟨a54, fs55, e9, h56, h56b, H⟩ := H; cases e9
        refine r_putF (M := m_J6_init_2) (pc := 75) dJ6_init_2_75 "java/lang/String" 21 1 _ rfl (Nat.le_of_ble_eq_true rfl) q508 (Or.inl rfl) rfl rfl rfl h56 (Nat.le_of_ble_eq_true rfl) h56b hn.1 hn.2 ?_
        exact r_return (M := m_J6_init_2) (pc := 78) dJ6_init_2_78 rfl H
  · replace H := f_if H hc
    refine r_aload_n (M := m_J6_init_2) (pc := 22) dJ6_init_2_22 0 rfl rfl ?_
    refine r_iconst (M := m_J6_init_2) (pc := 23) dJ6_init_2_23 0 rfl ?_
    obtain ⟨a58, fs59, e9, h60, h60b, H⟩ := H; cases e9
    refine r_putF (M := m_J6_init_2) (pc := 24) dJ6_init_2_24 "java/lang/String" 21 1 _ rfl (Nat.le_of_ble_eq_true rfl) q508 (Or.inl rfl) rfl rfl rfl h60 (Nat.le_of_ble_eq_true rfl) h60b rfl rfl ?_
    refine r_aload_n (M := m_J6_init_2) (pc := 27) dJ6_init_2_27 0 rfl rfl ?_
    refine r_aload_n (M := m_J6_init_2) (pc := 28) dJ6_init_2_28 3 rfl rfl ?_
    refine r_iconst (M := m_J6_init_2) (pc := 29) dJ6_init_2_29 0 rfl ?_
    refine r_iload (M := m_J6_init_2) (pc := 30) dJ6_init_2_30 rfl ?_
    refine r_S (M := m_J6_init_2) (pc := 32) dJ6_init_2_32 m_J10_copyOfRange k_J10_copyOfRange q484 q485 (av := [va_rf _, .int _, .int _]) (dy := d) n_J10_copyOfRange rfl (pw_c4 (Nat.le_of_ble_eq_true rfl)) (Nat.le_refl _) (H.mono (pw_nx_r (fun o63 w62 H1 => ?_)))
    replace H := H1; clear H1
    obtain ⟨a64, fs65, e9, h66, h66b, H⟩ := H; cases e9
    refine r_putF (M := m_J6_init_2) (pc := 35) dJ6_init_2_35 "java/lang/String" 21 0 _ rfl (Nat.le_of_ble_eq_true rfl) q507 (Or.inl rfl) rfl rfl rfl h66 (Nat.le_of_ble_eq_true rfl) h66b (nar_ra _ _) (fit_ra _ _) ?_
    refine r_goto (M := m_J6_init_2) (pc := 38) dJ6_init_2_38 97 (by decide) ?_
    exact r_return (M := m_J6_init_2) (pc := 97) dJ6_init_2_97 rfl H
theorem e_J6_init_2 {E : pw_E} {d : Nat} {w : pw_W} {Post : pw_R → pw_W → Prop} (a0 : Nat) (v1 : Option Nat) (v2 : Option Nat) (H : pw_Wp E m_J6_init_2 d 0 [some (va_rf (some a0)), some (va_rf v1), some (va_rf v2), none, none] [] w Post) : pw_Cl E m_J6_init_2 d [va_rf (some a0), va_rf v1, va_rf v2] w Post := pw_meth (by decide) rfl (pw_e1 (pw_cat_rf _) (pw_e1 (pw_cat_rf _) (pw_e1 (pw_cat_rf _) (pw_e0 (n := 2))))) H
theorem s_J6_isLatin1_0 {E : pw_E} {d : Nat} {w : pw_W} {Post : pw_R → pw_W → Prop} (v0 : Option Nat) (H : f_sti E 2 (fun x1 => (if x1 = 0 then Post (.inl (some (.int 0))) w else f_geti w v0 21 1 (fun x3 => (if x3 = 0 then Post (.inl (some (.int 1))) w else Post (.inl (some (.int 0))) w))))) : pw_Wp E m_J6_isLatin1 (d + 1) 0 [some (va_rf v0)] [] w Post := by
  obtain ⟨x1, h2, H⟩ := H
  refine r_getstatic (M := m_J6_isLatin1) (pc := 0) dJ6_isLatin1_0 2 _ rfl q493 h2 ?_
  refine r_if_eq (M := m_J6_isLatin1) (pc := 3) dJ6_isLatin1_3 17 (by decide) (fun hc => ?_) (fun hc => ?_)
  · replace H := f_it H hc
    refine r_iconst (M := m_J6_isLatin1) (pc := 17) dJ6_isLatin1_17 0 rfl ?_
    exact r_zreturn (M := m_J6_isLatin1) (pc := 18) dJ6_isLatin1_18 rfl rfl H
  · replace H := f_if H hc
    refine r_aload_n (M := m_J6_isLatin1) (pc := 6) dJ6_isLatin1_6 0 rfl rfl ?_
    obtain ⟨a4, fs5, x3, e9, h6, h6v, H⟩ := H; cases e9
    refine r_get (M := m_J6_isLatin1) (pc := 7) dJ6_isLatin1_7 "java/lang/String" 21 1 _ rfl (Nat.le_of_ble_eq_true rfl) q508 (Or.inl rfl) h6 (Nat.le_of_ble_eq_true rfl) h6v ?_
    refine r_if_ne (M := m_J6_isLatin1) (pc := 10) dJ6_isLatin1_10 17 (by decide) (fun hc => ?_) (fun hc => ?_)
    · replace H := f_if H hc
      refine r_iconst (M := m_J6_isLatin1) (pc := 17) dJ6_isLatin1_17 0 rfl ?_
      exact r_zreturn (M := m_J6_isLatin1) (pc := 18) dJ6_isLatin1_18 rfl rfl H
    · replace H := f_it H hc
      refine r_iconst (M := m_J6_isLatin1) (pc := 13) dJ6_isLatin1_13 1 rfl ?_
      refine r_goto (M := m_J6_isLatin1) (pc := 14) dJ6_isLatin1_14 18 (by decide) ?_
      exact r_zreturn (M := m_J6_isLatin1) (pc := 18) dJ6_isLatin1_18 rfl rfl H
theorem e_J6_isLatin1 {E : pw_E} {d : Nat} {w : pw_W} {Post : pw_R → pw_W → Prop} (v0 : Option Nat) (H : pw_Wp E m_J6_isLatin1 d 0 [some (va_rf v0)] [] w Post) : pw_Cl E m_J6_isLatin1 d [va_rf v0] w Post := pw_meth (by decide) rfl (pw_e1 (pw_cat_rf _) (pw_e0 (n := 0))) H
theorem s_J6_length_0 {E : pw_E} {d : Nat} {w : pw_W} {Post : pw_R → pw_W → Prop} (v0 : Option Nat) (H : f_getr w v0 21 0 (fun x1 => f_len w x1 (fun x5 => f_V E w v0 21 m_J6_coder d [] (c_i (fun x11 w10 => Post (.inl (some (.int (x5 >>> (x11 &&& 31))))) w10))))) : pw_Wp E m_J6_length (d + 1) 0 [some (va_rf v0)] [] w Post := by
  refine r_aload_n (M := m_J6_length) (pc := 0) dJ6_length_0 0 rfl rfl ?_
  obtain ⟨a2, fs3, x1, e9, h4, h4v, H⟩ := H; cases e9
  refine r_get (M := m_J6_length) (pc := 1) dJ6_length_1 "java/lang/String" 21 0 _ rfl (Nat.le_of_ble_eq_true rfl) q507 (Or.inl rfl) h4 (Nat.le_of_ble_eq_true rfl) h4v ?_
  obtain ⟨a6, t7, tyt7, vs8, e9, h9, h9t, H⟩ := H; cases e9
  refine r_alen (M := m_J6_length) (pc := 4) dJ6_length_4 t7 tyt7 h9t h9 ?_
  refine r_aload_n (M := m_J6_length) (pc := 5) dJ6_length_5 0 rfl rfl ?_
  obtain ⟨a12, us13, e9, h14, H⟩ := H; cases e9
  refine r_V (M := m_J6_length) (pc := 6) dJ6_length_6 m_J6_coder k_J6_coder q756 q757 21 _ rfl q758 (av := []) (dy := d) n_J6_coder h14 rfl (pw_c4 (Nat.le_of_ble_eq_true rfl)) (Nat.le_refl _) (H.mono (pw_nx_i (fun x11 w10 H1 => ?_)))
  replace H := H1; clear H1
  refine r_ishr (M := m_J6_length) (pc := 9) dJ6_length_9 ?_
  exact r_ireturn (M := m_J6_length) (pc := 10) dJ6_length_10 rfl H
theorem e_J6_length {E : pw_E} {d : Nat} {w : pw_W} {Post : pw_R → pw_W → Prop} (v0 : Option Nat) (H : pw_Wp E m_J6_length d 0 [some (va_rf v0)] [] w Post) : pw_Cl E m_J6_length d [va_rf v0] w Post := pw_meth (by decide) rfl (pw_e1 (pw_cat_rf _) (pw_e0 (n := 0))) H
theorem s_J8_hugeLength_0 {E : pw_E} {d : Nat} {w : pw_W} {Post : pw_R → pw_W → Prop} (v0 : Int32) (v1 : Int32) (H : (if 0 ≤ (v0 + v1) then (if 2147483639 < (v0 + v1) then Post (.inl (some (.int (v0 + v1)))) w else Post (.inl (some (.int 2147483639))) w) else False)) : pw_Wp E m_J8_hugeLength (d + 1) 0 [some (.int v0), some (.int v1), none] [] w Post := by
  refine r_iload_n (M := m_J8_hugeLength) (pc := 0) dJ8_hugeLength_0 0 rfl rfl ?_
  refine r_iload_n (M := m_J8_hugeLength) (pc := 1) dJ8_hugeLength_1 1 rfl rfl ?_
  refine r_iadd (M := m_J8_hugeLength) (pc := 2) dJ8_hugeLength_2 ?_
  refine r_istore_n (M := m_J8_hugeLength) (pc := 3) dJ8_hugeLength_3 2 rfl (Nat.le_of_ble_eq_true rfl) rfl ?_
  refine r_iload_n (M := m_J8_hugeLength) (pc := 4) dJ8_hugeLength_4 2 rfl rfl ?_
  refine r_if_ge (M := m_J8_hugeLength) (pc := 5) dJ8_hugeLength_5 49 (by decide) (fun hc => ?_) (fun hc => ?_)
  · replace H := f_it H hc
    refine r_iload_n (M := m_J8_hugeLength) (pc := 49) dJ8_hugeLength_49 2 rfl rfl ?_
    refine r_ldc (M := m_J8_hugeLength) (pc := 50) dJ8_hugeLength_50 2147483639 q390 ?_
    refine r_icmp_gt (M := m_J8_hugeLength) (pc := 52) dJ8_hugeLength_52 58 (by decide) (fun hc => ?_) (fun hc => ?_)
    · replace H := f_it H hc
      refine r_iload_n (M := m_J8_hugeLength) (pc := 58) dJ8_hugeLength_58 2 rfl rfl ?_
      exact r_ireturn (M := m_J8_hugeLength) (pc := 59) dJ8_hugeLength_59 rfl H
    · replace H := f_if H hc
      refine r_ldc (M := m_J8_hugeLength) (pc := 55) dJ8_hugeLength_55 2147483639 q390 ?_
      exact r_ireturn (M := m_J8_hugeLength) (pc := 57) dJ8_hugeLength_57 rfl H
  · replace H := f_if H hc
    exact H.elim
theorem e_J8_hugeLength {E : pw_E} {d : Nat} {w : pw_W} {Post : pw_R → pw_W → Prop} (v0 : Int32) (v1 : Int32) (H : pw_Wp E m_J8_hugeLength d 0 [some (.int v0), some (.int v1), none] [] w Post) : pw_Cl E m_J8_hugeLength d [.int v0, .int v1] w Post := pw_meth (by decide) rfl (pw_e1 rfl (pw_e1 rfl (pw_e0 (n := 1)))) H
theorem s_J8_mismatch_0 {E : pw_E} {d : Nat} {w : pw_W} {Post : pw_R → pw_W → Prop} (v0 : Option Nat) (v1 : Option Nat) (v2 : Int32) (H : (if v2 ≤ 7 then pw_Wp E m_J8_mismatch (d + 1) 49 [some (va_rf v0), some (va_rf v1), some (.int v2), some (.int 0)] [] w Post else f_aldb w v0 0 (fun x1 => f_aldb w v1 0 (fun x6 => (if x1 = x6 then False else Post (.inl (some (.int 0))) w))))) : pw_Wp E m_J8_mismatch (d + 1) 0 [some (va_rf v0), some (va_rf v1), some (.int v2), none] [] w Post := by
  refine r_iconst (M := m_J8_mismatch) (pc := 0) dJ8_mismatch_0 0 rfl ?_
  refine r_istore_n (M := m_J8_mismatch) (pc := 1) dJ8_mismatch_1 3 rfl (Nat.le_of_ble_eq_true rfl) rfl ?_
  refine r_iload_n (M := m_J8_mismatch) (pc := 2) dJ8_mismatch_2 2 rfl rfl ?_
  refine r_bipush (M := m_J8_mismatch) (pc := 3) dJ8_mismatch_3 7 rfl ?_
  refine r_icmp_le (M := m_J8_mismatch) (pc := 5) dJ8_mismatch_5 49 (by decide) (fun hc => ?_) (fun hc => ?_)
  · replace H := f_it H hc
    exact pw_weak (le_s (le_s (le_s (le_s le_0)))) H
  · replace H := f_if H hc
    refine r_aload_n (M := m_J8_mismatch) (pc := 8) dJ8_mismatch_8 0 rfl rfl ?_
    refine r_iconst (M := m_J8_mismatch) (pc := 9) dJ8_mismatch_9 0 rfl ?_
    obtain ⟨a2, vs4, x1, e9, h5, h50, h5v, H⟩ := H; cases e9
    refine r_baload (M := m_J8_mismatch) (pc := 10) dJ8_mismatch_10 h5 h50 h5v ?_
    refine r_aload_n (M := m_J8_mismatch) (pc := 11) dJ8_mismatch_11 1 rfl rfl ?_
    refine r_iconst (M := m_J8_mismatch) (pc := 12) dJ8_mismatch_12 0 rfl ?_
    obtain ⟨a7, vs9, x6, e9, h10, h100, h10v, H⟩ := H; cases e9
    refine r_baload (M := m_J8_mismatch) (pc := 13) dJ8_mismatch_13 h10 h100 h10v ?_
    refine r_icmp_eq (M := m_J8_mismatch) (pc := 14) dJ8_mismatch_14 19 (by decide) (fun hc => ?_) (fun hc => ?_)
    · replace H := f_it H hc
      refine r_aload_n (M := m_J8_mismatch) (pc := 19) dJ8_mismatch_19 0 rfl rfl ?_
      exact H.elim
    · replace H := f_if H hc
      refine r_iconst (M := m_J8_mismatch) (pc := 17) dJ8_mismatch_17 0 rfl ?_
      exact r_ireturn (M := m_J8_mismatch) (pc := 18) dJ8_mismatch_18 rfl H
theorem s_J8_mismatch_49 {E : pw_E} {d : Nat} {w : pw_W} {Post : pw_R → pw_W → Prop} (v0 : Option Nat) (v1 : Option Nat) (v2 : Int32) (v3 : Int32) (H : (if v2 ≤ v3 then Post (.inl (some (.int (-1)))) w else f_aldb w v0 v3 (fun x1 => f_aldb w v1 v3 (fun x6 => (if x1 = x6 then pw_Wp E m_J8_mismatch (d + 1) 49 [some (va_rf v0), some (va_rf v1), some (.int v2), some (.int (v3 + 1))] [] w Post else Post (.inl (some (.int v3))) w))))) : pw_Wp E m_J8_mismatch (d + 1) 49 [some (va_rf v0), some (va_rf v1), some (.int v2), some (.int v3)] [] w Post := by
  refine r_iload_n (M := m_J8_mismatch) (pc := 49) dJ8_mismatch_49 3 rfl rfl ?_
  refine r_iload_n (M := m_J8_mismatch) (pc := 50) dJ8_mismatch_50 2 rfl rfl ?_
  refine r_icmp_ge (M := m_J8_mismatch) (pc := 51) dJ8_mismatch_51 71 (by decide) (fun hc => ?_) (fun hc => ?_)
  · replace H := f_it H hc
    refine r_iconst (M := m_J8_mismatch) (pc := 71) dJ8_mismatch_71 (-1) rfl ?_
    exact r_ireturn (M := m_J8_mismatch) (pc := 72) dJ8_mismatch_72 rfl H
  · replace H := f_if H hc
    refine r_aload_n (M := m_J8_mismatch) (pc := 54) dJ8_mismatch_54 0 rfl rfl ?_
    refine r_iload_n (M := m_J8_mismatch) (pc := 55) dJ8_mismatch_55 3 rfl rfl ?_
    obtain ⟨a2, vs4, x1, e9, h5, h50, h5v, H⟩ := H; cases e9
    refine r_baload (M := m_J8_mismatch) (pc := 56) dJ8_mismatch_56 h5 h50 h5v ?_
    refine r_aload_n (M := m_J8_mismatch) (pc := 57) dJ8_mismatch_57 1 rfl rfl ?_
    refine r_iload_n (M := m_J8_mismatch) (pc := 58) dJ8_mismatch_58 3 rfl rfl ?_
    obtain ⟨a7, vs9, x6, e9, h10, h100, h10v, H⟩ := H; cases e9
    refine r_baload (M := m_J8_mismatch) (pc := 59) dJ8_mismatch_59 h10 h100 h10v ?_
    refine r_icmp_eq (M := m_J8_mismatch) (pc := 60) dJ8_mismatch_60 65 (by decide) (fun hc => ?_) (fun hc => ?_)
    · replace H := f_it H hc
      refine r_iinc (M := m_J8_mismatch) (pc := 65) dJ8_mismatch_65 1 rfl rfl (Nat.le_of_ble_eq_true rfl) rfl ?_
      refine r_goto (M := m_J8_mismatch) (pc := 68) dJ8_mismatch_68 49 (by decide) ?_
      exact pw_weak (le_s (le_s (le_s (le_s le_0)))) H
    · replace H := f_if H hc
      refine r_iload_n (M := m_J8_mismatch) (pc := 63) dJ8_mismatch_63 3 rfl rfl ?_
      exact r_ireturn (M := m_J8_mismatch) (pc := 64) dJ8_mismatch_64 rfl H
theorem e_J8_mismatch {E : pw_E} {d : Nat} {w : pw_W} {Post : pw_R → pw_W → Prop} (v0 : Option Nat) (v1 : Option Nat) (v2 : Int32) (H : pw_Wp E m_J8_mismatch d 0 [some (va_rf v0), some (va_rf v1), some (.int v2), none] [] w Post) : pw_Cl E m_J8_mismatch d [va_rf v0, va_rf v1, .int v2] w Post := pw_meth (by decide) rfl (pw_e1 (pw_cat_rf _) (pw_e1 (pw_cat_rf _) (pw_e1 rfl (pw_e0 (n := 1))))) H
theorem s_J8_newLength_0 {E : pw_E} {d : Nat} {w : pw_W} {Post : pw_R → pw_W → Prop} (v0 : Int32) (v1 : Int32) (v2 : Int32) (H : (if (v0 + (if v1 < v2 then v2 else v1)) ≤ 0 then pw_Cl E m_J8_hugeLength d [.int v0, .int v1] w (c_i (fun x2 w1 => Post (.inl (some (.int x2))) w1)) else (if 2147483639 < (v0 + (if v1 < v2 then v2 else v1)) then pw_Cl E m_J8_hugeLength d [.int v0, .int v1] w (c_i (fun x4 w3 => Post (.inl (some (.int x4))) w3)) else Post (.inl (some (.int (v0 + (if v1 < v2 then v2 else v1))))) w))) : pw_Wp E m_J8_newLength (d + 1) 0 [some (.int v0), some (.int v1), some (.int v2), none] [] w Post := by
  refine r_iload_n (M := m_J8_newLength) (pc := 0) dJ8_newLength_0 0 rfl rfl ?_
  refine r_iload_n (M := m_J8_newLength) (pc := 1) dJ8_newLength_1 1 rfl rfl ?_
  refine r_iload_n (M := m_J8_newLength) (pc := 2) dJ8_newLength_2 2 rfl rfl ?_
  refine r_max (M := m_J8_newLength) (pc := 3) dJ8_newLength_3 q387 q388 q149 q389 (Nat.succ_pos _) (pw_c4 (Nat.le_of_ble_eq_true rfl)) ?_
  refine r_iadd (M := m_J8_newLength) (pc := 6) dJ8_newLength_6 ?_
  refine r_istore_n (M := m_J8_newLength) (pc := 7) dJ8_newLength_7 3 rfl (Nat.le_of_ble_eq_true rfl) rfl ?_
  refine r_iconst (M := m_J8_newLength) (pc := 8) dJ8_newLength_8 0 rfl ?_
  refine r_iload_n (M := m_J8_newLength) (pc := 9) dJ8_newLength_9 3 rfl rfl ?_
  refine r_icmp_ge (M := m_J8_newLength) (pc := 10) dJ8_newLength_10 21 (by decide) (fun hc => ?_) (fun hc => ?_)
  · replace H := f_it H hc
    refine r_iload_n (M := m_J8_newLength) (pc := 21) dJ8_newLength_21 0 rfl rfl ?_
    refine r_iload_n (M := m_J8_newLength) (pc := 22) dJ8_newLength_22 1 rfl rfl ?_
    refine r_S (M := m_J8_newLength) (pc := 23) dJ8_newLength_23 m_J8_hugeLength k_J8_hugeLength q391 q392 (av := [.int _, .int _]) (dy := d) n_J8_hugeLength rfl (pw_c4 (Nat.le_of_ble_eq_true rfl)) (Nat.le_refl _) (H.mono (pw_nx_i (fun x2 w1 H1 => ?_)))
    replace H := H1; clear H1
    exact r_ireturn (M := m_J8_newLength) (pc := 26) dJ8_newLength_26 rfl H
  · replace H := f_if H hc
    refine r_iload_n (M := m_J8_newLength) (pc := 13) dJ8_newLength_13 3 rfl rfl ?_
    refine r_ldc (M := m_J8_newLength) (pc := 14) dJ8_newLength_14 2147483639 q390 ?_
    refine r_icmp_gt (M := m_J8_newLength) (pc := 16) dJ8_newLength_16 21 (by decide) (fun hc => ?_) (fun hc => ?_)
    · replace H := f_it H hc
      refine r_iload_n (M := m_J8_newLength) (pc := 21) dJ8_newLength_21 0 rfl rfl ?_
      refine r_iload_n (M := m_J8_newLength) (pc := 22) dJ8_newLength_22 1 rfl rfl ?_
      refine r_S (M := m_J8_newLength) (pc := 23) dJ8_newLength_23 m_J8_hugeLength k_J8_hugeLength q391 q392 (av := [.int _, .int _]) (dy := d) n_J8_hugeLength rfl (pw_c4 (Nat.le_of_ble_eq_true rfl)) (Nat.le_refl _) (H.mono (pw_nx_i (fun x4 w3 H1 => ?_)))
      replace H := H1; clear H1
      exact r_ireturn (M := m_J8_newLength) (pc := 26) dJ8_newLength_26 rfl H
    · replace H := f_if H hc
      refine r_iload_n (M := m_J8_newLength) (pc := 19) dJ8_newLength_19 3 rfl rfl ?_
      exact r_ireturn (M := m_J8_newLength) (pc := 20) dJ8_newLength_20 rfl H
theorem e_J8_newLength {E : pw_E} {d : Nat} {w : pw_W} {Post : pw_R → pw_W → Prop} (v0 : Int32) (v1 : Int32) (v2 : Int32) (H : pw_Wp E m_J8_newLength d 0 [some (.int v0), some (.int v1), some (.int v2), none] [] w Post) : pw_Cl E m_J8_newLength d [.int v0, .int v1, .int v2] w Post := pw_meth (by decide) rfl (pw_e1 rfl (pw_e1 rfl (pw_e1 rfl (pw_e0 (n := 1))))) H
theorem s_J8_vectorizedMismatch_0 {E : pw_E} {d : Nat} {w : pw_W} {Post : pw_R → pw_W → Prop} (v0 : Option Nat) (v1 : Int64) (v3 : Option Nat) (v4 : Int64) (v6 : Int32) (v7 : Int32) (H : False) : pw_Wp E m_J8_vectorizedMismatch (d + 1) 0 [some (va_rf v0), some (.long v1), none, some (va_rf v3), some (.long v4), none, some (.int v6), some (.int v7), none, none, none, none, none, none, none, none, none, none, none] [] w Post := by
  exact H.elim
theorem s_J8_vectorizedMismatch_11 {E : pw_E} {d : Nat} {w : pw_W} {Post : pw_R → pw_W → Prop} (v0 : Option Nat) (v1 : Int64) (v3 : Option Nat) (v4 : Int64) (v6 : Int32) (v7 : Int32) (v8 : Int32) (v9 : Int32) (H : (if (v6 >>> (v8 &&& 31)) ≤ v9 then False else False)) : pw_Wp E m_J8_vectorizedMismatch (d + 1) 11 [some (va_rf v0), some (.long v1), none, some (va_rf v3), some (.long v4), none, some (.int v6), some (.int v7), some (.int v8), some (.int v9), none, none, none, none, none, none, none, none, none] [] w Post := by
  refine r_iload (M := m_J8_vectorizedMismatch) (pc := 11) dJ8_vectorizedMismatch_11 rfl ?_
  refine r_iload (M := m_J8_vectorizedMismatch) (pc := 13) dJ8_vectorizedMismatch_13 rfl ?_
  refine r_iload (M := m_J8_vectorizedMismatch) (pc := 15) dJ8_vectorizedMismatch_15 rfl ?_
  refine r_ishr (M := m_J8_vectorizedMismatch) (pc := 17) dJ8_vectorizedMismatch_17 ?_
  refine r_icmp_ge (M := m_J8_vectorizedMismatch) (pc := 18) dJ8_vectorizedMismatch_18 122 (by decide) (fun hc => ?_) (fun hc => ?_)
  · replace H := f_it H hc
    refine r_iload (M := m_J8_vectorizedMismatch) (pc := 122) dJ8_vectorizedMismatch_122 rfl ?_
    refine r_iload (M := m_J8_vectorizedMismatch) (pc := 124) dJ8_vectorizedMismatch_124 rfl ?_
    refine r_iload (M := m_J8_vectorizedMismatch) (pc := 126) dJ8_vectorizedMismatch_126 rfl ?_
    refine r_ishl (M := m_J8_vectorizedMismatch) (pc := 128) dJ8_vectorizedMismatch_128 ?_
    refine r_isub (M := m_J8_vectorizedMismatch) (pc := 129) dJ8_vectorizedMismatch_129 ?_
    refine r_istore (M := m_J8_vectorizedMismatch) (pc := 130) dJ8_vectorizedMismatch_130 (Nat.le_of_ble_eq_true rfl) rfl ?_
    refine r_iload (M := m_J8_vectorizedMismatch) (pc := 132) dJ8_vectorizedMismatch_132 rfl ?_
    exact H.elim
  · replace H := f_if H hc
    refine r_iload (M := m_J8_vectorizedMismatch) (pc := 21) dJ8_vectorizedMismatch_21 rfl ?_
    refine r_i2l (M := m_J8_vectorizedMismatch) (pc := 23) dJ8_vectorizedMismatch_23 ?_
    exact H.elim
theorem e_J8_vectorizedMismatch {E : pw_E} {d : Nat} {w : pw_W} {Post : pw_R → pw_W → Prop} (v0 : Option Nat) (v1 : Int64) (v3 : Option Nat) (v4 : Int64) (v6 : Int32) (v7 : Int32) (H : pw_Wp E m_J8_vectorizedMismatch d 0 [some (va_rf v0), some (.long v1), none, some (va_rf v3), some (.long v4), none, some (.int v6), some (.int v7), none, none, none, none, none, none, none, none, none, none, none] [] w Post) : pw_Cl E m_J8_vectorizedMismatch d [va_rf v0, .long v1, va_rf v3, .long v4, .int v6, .int v7] w Post := pw_meth (by decide) rfl (pw_e1 (pw_cat_rf _) (pw_e2 rfl (pw_e1 (pw_cat_rf _) (pw_e2 rfl (pw_e1 rfl (pw_e1 rfl (pw_e0 (n := 11)))))))) H
