set_option maxRecDepth 100000
theorem t_X2_addWord_0 {E : pw_E} {d : Nat} {w0 : pw_W} {m : Nat} {S : tw_S} {Post : pw_R → pw_W → Prop} (hm : pw_base E ≤ m) (v1 : Int) (v2 : Int) (H : pw_Cl E m_X2_latest d [va_rf (some m), .int (iI v1)] (tw w0 m S) (c_i (t_i w0 m (fun z2 S1 => ((0 : Int) ≤ (46 + z2) ∧ (46 + z2) < 1526 ∧ (rI (S1.2.2 9 (Int.toNat (46 + z2))) ∧ if (20 : Int) ≤ (S1.2.2 9 (Int.toNat (46 + z2))) then Post (.inl none) (tw w0 m S1) else ((0 : Int) ≤ ((86 + (20 * z2)) + (S1.2.2 9 (Int.toNat (46 + z2)))) ∧ ((86 + (20 * z2)) + (S1.2.2 9 (Int.toNat (46 + z2)))) < 1526 ∧ ((0 : Int) ≤ (46 + z2) ∧ (46 + z2) < 1526 ∧ ((0 : Int) ≤ (46 + z2) ∧ (46 + z2) < 1526 ∧ Post (.inl none) (tw w0 m (tw_sa (tw_sa S1 9 (Int.toNat ((86 + (20 * z2)) + (S1.2.2 9 (Int.toNat (46 + z2))))) v2) 9 (Int.toNat (46 + z2)) (((tw_sa S1 9 (Int.toNat ((86 + (20 * z2)) + (S1.2.2 9 (Int.toNat (46 + z2))))) v2).2.2 9 (Int.toNat (46 + z2))) + 1)))))))))))) : pw_Wp E m_X2_addWord (d + 1) 0 [some (va_rf (some m)), some (.int (iI v1)), some (.int (iI v2)), none, none] [] (tw w0 m S) Post := by
  refine s_X2_addWord_0 (some m) (iI v1) (iI v2) ?_
  refine tw_V ?_
  refine pw_avE (l_k (l_i rfl l_0)) (H.mono (t_iE (fun z2 S1 H => ?_)))
  refine tw_getr rfl ?_
  obtain ⟨h3, h4, H⟩ := H
  refine tw_aldi (k := 9) (t := (46 + z2)) rfl (iI_addE rfl rfl) h3 h4 ?_
  obtain ⟨h11, H⟩ := H
  refine f_leE (s := 20) (t := (S1.2.2 9 (Int.toNat (46 + z2)))) rfl rfl (by constructor <;> decide) h11 H (fun H => ?_) (fun H => ?_)
  · exact H
  · refine tw_getr rfl ?_
    obtain ⟨h5, h6, H⟩ := H
    refine tw_asti (k := 9) (t := ((86 + (20 * z2)) + (S1.2.2 9 (Int.toNat (46 + z2))))) (x := v2) hm rfl (iI_addE (iI_addE rfl (iI_mulE rfl rfl)) rfl) h5 h6 rfl ?_
    refine tw_getr rfl ?_
    obtain ⟨h7, h8, H⟩ := H
    refine tw_aldi (k := 9) (t := (46 + z2)) rfl (iI_addE rfl rfl) h7 h8 ?_
    obtain ⟨h9, h10, H⟩ := H
    refine tw_asti (k := 9) (t := (46 + z2)) (x := (((tw_sa S1 9 (Int.toNat ((86 + (20 * z2)) + (S1.2.2 9 (Int.toNat (46 + z2))))) v2).2.2 9 (Int.toNat (46 + z2))) + 1)) hm rfl (iI_addE rfl rfl) h9 h10 (iI_addE rfl rfl) ?_
    exact H
theorem t_X2_addsFault_0 {E : pw_E} {d : Nat} {w0 : pw_W} {m : Nat} {S : tw_S} {Post : pw_R → pw_W → Prop} (hm : pw_base E ≤ m) (v1 : Int) (v2 : Int) (H : (rI (S.1 16) ∧ if (S.1 16) = 0 then Post (.inl none) (tw w0 m (tw_sf (tw_sf S 16 v1) 17 v2)) else (rI v2 ∧ rI (S.1 17) ∧ if v2 < (S.1 17) then Post (.inl none) (tw w0 m (tw_sf (tw_sf S 16 v1) 17 v2)) else (rI v2 ∧ rI (S.1 17) ∧ if v2 = (S.1 17) then (rI (S.1 16) ∧ rI v1 ∧ if (S.1 16) ≤ v1 then Post (.inl none) (tw w0 m S) else Post (.inl none) (tw w0 m (tw_sf (tw_sf S 16 v1) 17 v2))) else Post (.inl none) (tw w0 m S))))) : pw_Wp E m_X2_addsFault (d + 1) 0 [some (va_rf (some m)), some (.int (iI v1)), some (.int (iI v2))] [] (tw w0 m S) Post := by
  refine s_X2_addsFault_0 (some m) (iI v1) (iI v2) ?_
  refine tw_geti rfl ?_
  obtain ⟨h7, H⟩ := H
  refine f_eqE (s := (S.1 16)) (t := 0) rfl rfl h7 (by constructor <;> decide) H (fun H => ?_) (fun H => ?_)
  · refine tw_puti (x := v1) hm rfl rfl ?_
    refine tw_puti (x := v2) hm rfl rfl ?_
    exact H
  · refine tw_geti rfl ?_
    obtain ⟨h5, H⟩ := H
    obtain ⟨h6, H⟩ := H
    refine f_ltE (s := v2) (t := (S.1 17)) rfl rfl h5 h6 H (fun H => ?_) (fun H => ?_)
    · refine tw_puti (x := v1) hm rfl rfl ?_
      refine tw_puti (x := v2) hm rfl rfl ?_
      exact H
    · refine tw_geti rfl ?_
      obtain ⟨h3, H⟩ := H
      obtain ⟨h4, H⟩ := H
      refine f_eqE (s := v2) (t := (S.1 17)) rfl rfl h3 h4 H (fun H => ?_) (fun H => ?_)
      · refine tw_geti rfl ?_
        obtain ⟨h1, H⟩ := H
        obtain ⟨h2, H⟩ := H
        refine f_leE (s := (S.1 16)) (t := v1) rfl rfl h1 h2 H (fun H => ?_) (fun H => ?_)
        · exact H
        · refine tw_puti (x := v1) hm rfl rfl ?_
          refine tw_puti (x := v2) hm rfl rfl ?_
          exact H
      · exact H
theorem t_X2_again_0 {E : pw_E} {d : Nat} {w0 : pw_W} {m : Nat} {S : tw_S} {Post : pw_R → pw_W → Prop} (hm : pw_base E ≤ m) (v1 : Int) (H : pw_Cl E m_X2_in d [.int (iI v1), .int (iI 0), .int (iI 2)] (tw w0 m (tw_sf S 0 0)) (c_z (t_b w0 m (fun b2 S1 => (if b2 = true then ((0 : Int) ≤ v1 ∧ v1 < 3 ∧ (rI (S1.2.2 16 (Int.toNat v1)) ∧ if (S1.2.2 16 (Int.toNat v1)) = 0 then Post (.inl (some (.int (iI 0)))) (tw w0 m S1) else pw_Cl E m_X2_copyAll d [va_rf (some m), .int (iI (v1 + 1)), .int (iI 0)] (tw w0 m S1) (c_v (t_u w0 m (fun S5 => Post (.inl (some (.int (iI 1)))) (tw w0 m S5)))))) else Post (.inl (some (.int (iI 0)))) (tw w0 m S1)))))) : pw_Wp E m_X2_again (d + 1) 0 [some (va_rf (some m)), some (.int (iI v1))] [] (tw w0 m S) Post := by
  refine s_X2_again_0 (some m) (iI v1) ?_
  refine tw_puti (x := 0) hm rfl rfl ?_
  refine pw_avE (l_i rfl (l_i rfl (l_i rfl l_0))) (H.mono (t_bE (fun b2 S1 H => ?_)))
  refine f_bE H (fun H => ?_) (fun H => ?_)
  · exact c_pi rfl H
  · refine tw_getr rfl ?_
    obtain ⟨h3, h4, H⟩ := H
    refine tw_aldz (t := v1) rfl h3 h4 ?_
    obtain ⟨h6, H⟩ := H
    refine f_eqE (s := (S1.2.2 16 (Int.toNat v1))) (t := 0) rfl rfl h6 (by constructor <;> decide) H (fun H => ?_) (fun H => ?_)
    · exact c_pi rfl H
    · refine tw_V ?_
      refine pw_avE (l_k (l_i (iI_addE rfl rfl) (l_i rfl l_0))) (H.mono (t_uE (fun S5 H => ?_)))
      exact c_pi rfl H
theorem t_X2_allLines_0 {E : pw_E} {d : Nat} {w0 : pw_W} {m : Nat} {S : tw_S} {Post : pw_R → pw_W → Prop} (hm : pw_base E ≤ m) (v1 : Int) (H : pw_Wp E m_X2_allLines (d + 1) 7 [some (va_rf (some m)), some (.int (iI v1)), some (.int (iI 1)), none, none, none] [] (tw w0 m (tw_sf S 23 0)) Post) : pw_Wp E m_X2_allLines (d + 1) 0 [some (va_rf (some m)), some (.int (iI v1)), none, none, none, none] [] (tw w0 m S) Post := by
  refine s_X2_allLines_0 (some m) (iI v1) ?_
  refine tw_puti (x := 0) hm rfl rfl ?_
  exact pw_eqL (g_k (g_i rfl (g_i rfl (g_k (g_k (g_k g_0)))))) H
theorem t_X2_allLines_7 {E : pw_E} {d : Nat} {w0 : pw_W} {m : Nat} {S : tw_S} {Post : pw_R → pw_W → Prop} (hm : pw_base E ≤ m) (v1 : Int) (v2 : Int) (H : (rI v2 ∧ if v2 = 0 then ((v2 = (0 : Int) ∨ v2 = (1 : Int)) ∧ Post (.inl (some (.int (iI v2)))) (tw w0 m S)) else (rI (S.1 12) ∧ if (S.1 12) = 0 then ((v2 = (0 : Int) ∨ v2 = (1 : Int)) ∧ Post (.inl (some (.int (iI v2)))) (tw w0 m S)) else (rI (S.1 12) ∧ if (S.1 12) = 2 then (rI v1 ∧ if v1 = 0 then pw_Cl E m_X2_archiveLine d [va_rf (some m), .long S.2.1, .int (iI (S.1 11))] (tw w0 m (tw_sf (tw_sf S 22 1) 21 0)) (c_z (t_b w0 m (fun b4 S3 => (if b4 = true then (rI (S3.1 12) ∧ if (S3.1 12) = 4 then pw_Wp E m_X2_allLines (d + 1) 105 [some (va_rf (some m)), some (.int (iI v1)), some (.int (bI b4)), none, none, none] [] (tw w0 m S3) Post else pw_Cl E m_X2_fails d [va_rf (some m)] (tw w0 m S3) (c_z (t_b w0 m (fun b6 S5 => pw_Wp E m_X2_allLines (d + 1) 105 [some (va_rf (some m)), some (.int (iI v1)), some (.int (bI b6)), none, none, none] [] (tw w0 m S5) Post)))) else pw_Wp E m_X2_allLines (d + 1) 105 [some (va_rf (some m)), some (.int (iI v1)), some (.int (bI b4)), none, none, none] [] (tw w0 m S3) Post)))) else (rI v1 ∧ if v1 = 1 then pw_Cl E m_X2_askingLine d [va_rf (some m), .long S.2.1, .int (iI (S.1 11))] (tw w0 m (tw_sf (tw_sf S 22 1) 21 0)) (c_z (t_b w0 m (fun b9 S8 => (if b9 = true then (rI (S8.1 12) ∧ if (S8.1 12) = 4 then pw_Wp E m_X2_allLines (d + 1) 105 [some (va_rf (some m)), some (.int (iI v1)), some (.int (bI b9)), none, none, none] [] (tw w0 m S8) Post else pw_Cl E m_X2_fails d [va_rf (some m)] (tw w0 m S8) (c_z (t_b w0 m (fun b11 S10 => pw_Wp E m_X2_allLines (d + 1) 105 [some (va_rf (some m)), some (.int (iI v1)), some (.int (bI b11)), none, none, none] [] (tw w0 m S10) Post)))) else pw_Wp E m_X2_allLines (d + 1) 105 [some (va_rf (some m)), some (.int (iI v1)), some (.int (bI b9)), none, none, none] [] (tw w0 m S8) Post)))) else pw_Cl E m_X2_huntLine d [va_rf (some m), .long S.2.1, .int (iI (S.1 11))] (tw w0 m (tw_sf (tw_sf S 22 1) 21 0)) (c_z (t_b w0 m (fun b14 S13 => (if b14 = true then (rI (S13.1 12) ∧ if (S13.1 12) = 4 then pw_Wp E m_X2_allLines (d + 1) 105 [some (va_rf (some m)), some (.int (iI v1)), some (.int (bI b14)), none, none, none] [] (tw w0 m S13) Post else pw_Cl E m_X2_fails d [va_rf (some m)] (tw w0 m S13) (c_z (t_b w0 m (fun b16 S15 => pw_Wp E m_X2_allLines (d + 1) 105 [some (va_rf (some m)), some (.int (iI v1)), some (.int (bI b16)), none, none, none] [] (tw w0 m S15) Post)))) else pw_Wp E m_X2_allLines (d + 1) 105 [some (va_rf (some m)), some (.int (iI v1)), some (.int (bI b14)), none, none, none] [] (tw w0 m S13) Post)))))) else (rI v1 ∧ if v1 = 0 then pw_Cl E m_X2_archiveLine d [va_rf (some m), .long 0, .int (iI (S.1 11))] (tw w0 m (tw_sf (tw_sf S 22 1) 21 0)) (c_z (t_b w0 m (fun b21 S20 => (if b21 = true then (rI (S20.1 12) ∧ if (S20.1 12) = 4 then pw_Wp E m_X2_allLines (d + 1) 105 [some (va_rf (some m)), some (.int (iI v1)), some (.int (bI b21)), none, none, none] [] (tw w0 m S20) Post else pw_Cl E m_X2_fails d [va_rf (some m)] (tw w0 m S20) (c_z (t_b w0 m (fun b23 S22 => pw_Wp E m_X2_allLines (d + 1) 105 [some (va_rf (some m)), some (.int (iI v1)), some (.int (bI b23)), none, none, none] [] (tw w0 m S22) Post)))) else pw_Wp E m_X2_allLines (d + 1) 105 [some (va_rf (some m)), some (.int (iI v1)), some (.int (bI b21)), none, none, none] [] (tw w0 m S20) Post)))) else (rI v1 ∧ if v1 = 1 then pw_Cl E m_X2_askingLine d [va_rf (some m), .long 0, .int (iI (S.1 11))] (tw w0 m (tw_sf (tw_sf S 22 1) 21 0)) (c_z (t_b w0 m (fun b26 S25 => (if b26 = true then (rI (S25.1 12) ∧ if (S25.1 12) = 4 then pw_Wp E m_X2_allLines (d + 1) 105 [some (va_rf (some m)), some (.int (iI v1)), some (.int (bI b26)), none, none, none] [] (tw w0 m S25) Post else pw_Cl E m_X2_fails d [va_rf (some m)] (tw w0 m S25) (c_z (t_b w0 m (fun b28 S27 => pw_Wp E m_X2_allLines (d + 1) 105 [some (va_rf (some m)), some (.int (iI v1)), some (.int (bI b28)), none, none, none] [] (tw w0 m S27) Post)))) else pw_Wp E m_X2_allLines (d + 1) 105 [some (va_rf (some m)), some (.int (iI v1)), some (.int (bI b26)), none, none, none] [] (tw w0 m S25) Post)))) else pw_Cl E m_X2_huntLine d [va_rf (some m), .long 0, .int (iI (S.1 11))] (tw w0 m (tw_sf (tw_sf S 22 1) 21 0)) (c_z (t_b w0 m (fun b31 S30 => (if b31 = true then (rI (S30.1 12) ∧ if (S30.1 12) = 4 then pw_Wp E m_X2_allLines (d + 1) 105 [some (va_rf (some m)), some (.int (iI v1)), some (.int (bI b31)), none, none, none] [] (tw w0 m S30) Post else pw_Cl E m_X2_fails d [va_rf (some m)] (tw w0 m S30) (c_z (t_b w0 m (fun b33 S32 => pw_Wp E m_X2_allLines (d + 1) 105 [some (va_rf (some m)), some (.int (iI v1)), some (.int (bI b33)), none, none, none] [] (tw w0 m S32) Post)))) else pw_Wp E m_X2_allLines (d + 1) 105 [some (va_rf (some m)), some (.int (iI v1)), some (.int (bI b31)), none, none, none] [] (tw w0 m S30) Post)))))))))) : pw_Wp E m_X2_allLines (d + 1) 7 [some (va_rf (some m)), some (.int (iI v1)), some (.int (iI v2)), none, none, none] [] (tw w0 m S) Post := by
  refine s_X2_allLines_7 (some m) (iI v1) (iI v2) ?_
  obtain ⟨h39, H⟩ := H
  refine f_eqE (s := v2) (t := 0) rfl rfl h39 (by constructor <;> decide) H (fun H => ?_) (fun H => ?_)
  · obtain ⟨h1, H⟩ := H
    exact ⟨nar_01 rfl h1, c_pi rfl H⟩
  · refine tw_geti rfl ?_
    obtain ⟨h38, H⟩ := H
    refine f_eqE (s := (S.1 12)) (t := 0) rfl rfl h38 (by constructor <;> decide) H (fun H => ?_) (fun H => ?_)
    · obtain ⟨h2, H⟩ := H
      exact ⟨nar_01 rfl h2, c_pi rfl H⟩
    · refine tw_geti rfl ?_
      refine tw_geti rfl ?_
      obtain ⟨h37, H⟩ := H
      refine f_eqE (s := (S.1 12)) (t := 2) rfl rfl h37 (by constructor <;> decide) H (fun H => ?_) (fun H => ?_)
      · refine tw_getl ?_
        refine tw_puti (x := 1) hm rfl rfl ?_
        refine tw_puti (x := 0) hm rfl rfl ?_
        obtain ⟨h19, H⟩ := H
        refine f_eqE (s := v1) (t := 0) rfl rfl h19 (by constructor <;> decide) H (fun H => ?_) (fun H => ?_)
        · refine tw_V ?_
          refine pw_avE (l_k (l_k (l_i rfl l_0))) (H.mono (t_bE (fun b4 S3 H => ?_)))
          refine f_bE H (fun H => ?_) (fun H => ?_)
          · exact pw_eqL (g_k (g_i rfl (g_k (g_k (g_k (g_k g_0)))))) H
          · refine tw_geti rfl ?_
            obtain ⟨h7, H⟩ := H
            refine f_eqE (s := (S3.1 12)) (t := 4) rfl rfl h7 (by constructor <;> decide) H (fun H => ?_) (fun H => ?_)
            · exact pw_eqL (g_k (g_i rfl (g_k (g_k (g_k (g_k g_0)))))) H
            · refine tw_V ?_
              refine pw_avE (l_k l_0) (H.mono (t_bE (fun b6 S5 H => ?_)))
              exact pw_eqL (g_k (g_i rfl (g_k (g_k (g_k (g_k g_0)))))) H
        · obtain ⟨h18, H⟩ := H
          refine f_eqE (s := v1) (t := 1) rfl rfl h18 (by constructor <;> decide) H (fun H => ?_) (fun H => ?_)
          · refine tw_V ?_
            refine pw_avE (l_k (l_k (l_i rfl l_0))) (H.mono (t_bE (fun b9 S8 H => ?_)))
            refine f_bE H (fun H => ?_) (fun H => ?_)
            · exact pw_eqL (g_k (g_i rfl (g_k (g_k (g_k (g_k g_0)))))) H
            · refine tw_geti rfl ?_
              obtain ⟨h12, H⟩ := H
              refine f_eqE (s := (S8.1 12)) (t := 4) rfl rfl h12 (by constructor <;> decide) H (fun H => ?_) (fun H => ?_)
              · exact pw_eqL (g_k (g_i rfl (g_k (g_k (g_k (g_k g_0)))))) H
              · refine tw_V ?_
                refine pw_avE (l_k l_0) (H.mono (t_bE (fun b11 S10 H => ?_)))
                exact pw_eqL (g_k (g_i rfl (g_k (g_k (g_k (g_k g_0)))))) H
          · refine tw_V ?_
            refine pw_avE (l_k (l_k (l_i rfl l_0))) (H.mono (t_bE (fun b14 S13 H => ?_)))
            refine f_bE H (fun H => ?_) (fun H => ?_)
            · exact pw_eqL (g_k (g_i rfl (g_k (g_k (g_k (g_k g_0)))))) H
            · refine tw_geti rfl ?_
              obtain ⟨h17, H⟩ := H
              refine f_eqE (s := (S13.1 12)) (t := 4) rfl rfl h17 (by constructor <;> decide) H (fun H => ?_) (fun H => ?_)
              · exact pw_eqL (g_k (g_i rfl (g_k (g_k (g_k (g_k g_0)))))) H
              · refine tw_V ?_
                refine pw_avE (l_k l_0) (H.mono (t_bE (fun b16 S15 H => ?_)))
                exact pw_eqL (g_k (g_i rfl (g_k (g_k (g_k (g_k g_0)))))) H
      · refine tw_puti (x := 1) hm rfl rfl ?_
        refine tw_puti (x := 0) hm rfl rfl ?_
        obtain ⟨h36, H⟩ := H
        refine f_eqE (s := v1) (t := 0) rfl rfl h36 (by constructor <;> decide) H (fun H => ?_) (fun H => ?_)
        · refine tw_V ?_
          refine pw_avE (l_k (l_k (l_i rfl l_0))) (H.mono (t_bE (fun b21 S20 H => ?_)))
          refine f_bE H (fun H => ?_) (fun H => ?_)
          · exact pw_eqL (g_k (g_i rfl (g_k (g_k (g_k (g_k g_0)))))) H
          · refine tw_geti rfl ?_
            obtain ⟨h24, H⟩ := H
            refine f_eqE (s := (S20.1 12)) (t := 4) rfl rfl h24 (by constructor <;> decide) H (fun H => ?_) (fun H => ?_)
            · exact pw_eqL (g_k (g_i rfl (g_k (g_k (g_k (g_k g_0)))))) H
            · refine tw_V ?_
              refine pw_avE (l_k l_0) (H.mono (t_bE (fun b23 S22 H => ?_)))
              exact pw_eqL (g_k (g_i rfl (g_k (g_k (g_k (g_k g_0)))))) H
        · obtain ⟨h35, H⟩ := H
          refine f_eqE (s := v1) (t := 1) rfl rfl h35 (by constructor <;> decide) H (fun H => ?_) (fun H => ?_)
          · refine tw_V ?_
            refine pw_avE (l_k (l_k (l_i rfl l_0))) (H.mono (t_bE (fun b26 S25 H => ?_)))
            refine f_bE H (fun H => ?_) (fun H => ?_)
            · exact pw_eqL (g_k (g_i rfl (g_k (g_k (g_k (g_k g_0)))))) H
            · refine tw_geti rfl ?_
              obtain ⟨h29, H⟩ := H
              refine f_eqE (s := (S25.1 12)) (t := 4) rfl rfl h29 (by constructor <;> decide) H (fun H => ?_) (fun H => ?_)
              · exact pw_eqL (g_k (g_i rfl (g_k (g_k (g_k (g_k g_0)))))) H
              · refine tw_V ?_
                refine pw_avE (l_k l_0) (H.mono (t_bE (fun b28 S27 H => ?_)))
                exact pw_eqL (g_k (g_i rfl (g_k (g_k (g_k (g_k g_0)))))) H
          · refine tw_V ?_
            refine pw_avE (l_k (l_k (l_i rfl l_0))) (H.mono (t_bE (fun b31 S30 H => ?_)))
            refine f_bE H (fun H => ?_) (fun H => ?_)
            · exact pw_eqL (g_k (g_i rfl (g_k (g_k (g_k (g_k g_0)))))) H
            · refine tw_geti rfl ?_
              obtain ⟨h34, H⟩ := H
              refine f_eqE (s := (S30.1 12)) (t := 4) rfl rfl h34 (by constructor <;> decide) H (fun H => ?_) (fun H => ?_)
              · exact pw_eqL (g_k (g_i rfl (g_k (g_k (g_k (g_k g_0)))))) H
              · refine tw_V ?_
                refine pw_avE (l_k l_0) (H.mono (t_bE (fun b33 S32 H => ?_)))
                exact pw_eqL (g_k (g_i rfl (g_k (g_k (g_k (g_k g_0)))))) H
theorem t_X2_allLines_105 {E : pw_E} {d : Nat} {w0 : pw_W} {m : Nat} {S : tw_S} {Post : pw_R → pw_W → Prop} (hm : pw_base E ≤ m) (v1 : Int) (v2 : Bool) (H : (if v2 = true then pw_Cl E m_X2_token d [va_rf (some m)] (tw w0 m S) (c_v (t_u w0 m (fun S1 => pw_Wp E m_X2_allLines (d + 1) 7 [some (va_rf (some m)), some (.int (iI v1)), some (.int (bI v2)), none, none, none] [] (tw w0 m (tw_sf S1 23 ((S1.1 23) + 1))) Post))) else pw_Wp E m_X2_allLines (d + 1) 7 [some (va_rf (some m)), some (.int (iI v1)), some (.int (bI v2)), none, none, none] [] (tw w0 m S) Post)) : pw_Wp E m_X2_allLines (d + 1) 105 [some (va_rf (some m)), some (.int (iI v1)), some (.int (bI v2)), none, none, none] [] (tw w0 m S) Post := by
  refine s_X2_allLines_105 (some m) (iI v1) v2 ?_
  refine f_bE H (fun H => ?_) (fun H => ?_)
  · exact pw_eqL (g_k (g_i rfl (g_k (g_k (g_k (g_k g_0)))))) H
  · refine tw_V ?_
    refine pw_avE (l_k l_0) (H.mono (t_uE (fun S1 H => ?_)))
    refine tw_geti rfl ?_
    refine tw_puti (x := ((S1.1 23) + 1)) hm rfl (iI_addE rfl rfl) ?_
    exact pw_eqL (g_k (g_i rfl (g_k (g_k (g_k (g_k g_0)))))) H
theorem t_X2_archive_0 {E : pw_E} {d : Nat} {w0 : pw_W} {m : Nat} {S : tw_S} {Post : pw_R → pw_W → Prop} (hm : pw_base E ≤ m) (v1 : Int) (v2 : Int) (H : pw_Cl E m_X2_hand d [va_rf (some m), .int (iI v1)] (tw w0 m (tw_sf S 0 0)) (c_z (t_b w0 m (fun b2 S1 => (if b2 = true then (rI v2 ∧ if v2 < 10 then (rI v2 ∧ if v2 = 0 then Post (.inl (some (.int (iI (S1.2.2 9 0))))) (tw w0 m S1) else (rI v2 ∧ if v2 = 1 then pw_Cl E m_X2_versionsAll d [va_rf (some m)] (tw w0 m S1) (c_i (t_i w0 m (fun z6 S5 => Post (.inl (some (.int (iI z6)))) (tw w0 m S5)))) else (rI v2 ∧ if v2 = 2 then pw_Cl E m_X2_sizeAll d [va_rf (some m)] (tw w0 m S1) (c_i (t_i w0 m (fun z8 S7 => Post (.inl (some (.int (iI z8)))) (tw w0 m S7)))) else (rI v2 ∧ if v2 = 3 then Post (.inl (some (.int (iI (S1.1 24))))) (tw w0 m S1) else (rI v2 ∧ if v2 = 4 then pw_Cl E m_X2_postings d [va_rf (some m)] (tw w0 m S1) (c_i (t_i w0 m (fun z10 S9 => Post (.inl (some (.int (iI z10)))) (tw w0 m S9)))) else (rI v2 ∧ if v2 = 5 then pw_Cl E m_X2_longest d [va_rf (some m)] (tw w0 m S1) (c_i (t_i w0 m (fun z12 S11 => Post (.inl (some (.int (iI z12)))) (tw w0 m S11)))) else (rI v2 ∧ if v2 = 6 then pw_Cl E m_X2_twins d [va_rf (some m)] (tw w0 m S1) (c_i (t_i w0 m (fun z14 S13 => Post (.inl (some (.int (iI z14)))) (tw w0 m S13)))) else (rI v2 ∧ if v2 = 7 then pw_Cl E m_X2_layWords d [va_rf (some m)] (tw w0 m S1) (c_v (t_u w0 m (fun S15 => Post (.inl (some (.int (iI (S15.1 25))))) (tw w0 m S15)))) else Post (.inl (some (.int (iI (-2))))) (tw w0 m S1))))))))) else pw_Cl E m_X2_ofDoc d [va_rf (some m), .int (iI (Int32.toInt ((iI v2) - (iI v2) / 10 * 10))), .int (iI (Int32.toInt ((iI v2) / 10)))] (tw w0 m S1) (c_i (t_i w0 m (fun z25 S24 => Post (.inl (some (.int (iI z25)))) (tw w0 m S24))))) else Post (.inl (some (.int (iI (-2))))) (tw w0 m S1)))))) : pw_Wp E m_X2_archive (d + 1) 0 [some (va_rf (some m)), some (.int (iI v1)), some (.int (iI v2))] [] (tw w0 m S) Post := by
  refine s_X2_archive_0 (some m) (iI v1) (iI v2) ?_
  refine tw_puti (x := 0) hm rfl rfl ?_
  refine tw_V ?_
  refine pw_avE (l_k (l_i rfl l_0)) (H.mono (t_bE (fun b2 S1 H => ?_)))
  refine f_bE H (fun H => ?_) (fun H => ?_)
  · exact c_pi rfl H
  · obtain ⟨h26, H⟩ := H
    refine f_ltE (s := v2) (t := 10) rfl rfl h26 (by constructor <;> decide) H (fun H => ?_) (fun H => ?_)
    · obtain ⟨h23, H⟩ := H
      refine f_eqE (s := v2) (t := 0) rfl rfl h23 (by constructor <;> decide) H (fun H => ?_) (fun H => ?_)
      · refine tw_getr rfl ?_
        refine tw_aldi (k := 9) (t := 0) rfl rfl (by decide) (by decide) ?_
        exact c_pi rfl H
      · obtain ⟨h22, H⟩ := H
        refine f_eqE (s := v2) (t := 1) rfl rfl h22 (by constructor <;> decide) H (fun H => ?_) (fun H => ?_)
        · refine tw_V ?_
          refine pw_avE (l_k l_0) (H.mono (t_iE (fun z6 S5 H => ?_)))
          exact c_pi rfl H
        · obtain ⟨h21, H⟩ := H
          refine f_eqE (s := v2) (t := 2) rfl rfl h21 (by constructor <;> decide) H (fun H => ?_) (fun H => ?_)
          · refine tw_V ?_
            refine pw_avE (l_k l_0) (H.mono (t_iE (fun z8 S7 H => ?_)))
            exact c_pi rfl H
          · obtain ⟨h20, H⟩ := H
            refine f_eqE (s := v2) (t := 3) rfl rfl h20 (by constructor <;> decide) H (fun H => ?_) (fun H => ?_)
            · refine tw_geti rfl ?_
              exact c_pi rfl H
            · obtain ⟨h19, H⟩ := H
              refine f_eqE (s := v2) (t := 4) rfl rfl h19 (by constructor <;> decide) H (fun H => ?_) (fun H => ?_)
              · refine tw_V ?_
                refine pw_avE (l_k l_0) (H.mono (t_iE (fun z10 S9 H => ?_)))
                exact c_pi rfl H
              · obtain ⟨h18, H⟩ := H
                refine f_eqE (s := v2) (t := 5) rfl rfl h18 (by constructor <;> decide) H (fun H => ?_) (fun H => ?_)
                · refine tw_V ?_
                  refine pw_avE (l_k l_0) (H.mono (t_iE (fun z12 S11 H => ?_)))
                  exact c_pi rfl H
                · obtain ⟨h17, H⟩ := H
                  refine f_eqE (s := v2) (t := 6) rfl rfl h17 (by constructor <;> decide) H (fun H => ?_) (fun H => ?_)
                  · refine tw_V ?_
                    refine pw_avE (l_k l_0) (H.mono (t_iE (fun z14 S13 H => ?_)))
                    exact c_pi rfl H
                  · obtain ⟨h16, H⟩ := H
                    refine f_eqE (s := v2) (t := 7) rfl rfl h16 (by constructor <;> decide) H (fun H => ?_) (fun H => ?_)
                    · refine tw_V ?_
                      refine pw_avE (l_k l_0) (H.mono (t_uE (fun S15 H => ?_)))
                      refine tw_geti rfl ?_
                      exact c_pi rfl H
                    · exact c_pi rfl H
    · refine tw_V ?_
      refine pw_avE (l_k (l_i (iI_oE _) (l_i (iI_oE _) l_0))) (H.mono (t_iE (fun z25 S24 H => ?_)))
      exact c_pi rfl H
theorem t_X2_archiveLine_0 {E : pw_E} {d : Nat} {w0 : pw_W} {m : Nat} {S : tw_S} {Post : pw_R → pw_W → Prop} (hm : pw_base E ≤ m) (v1 : Int64) (v3 : Int) (H : pw_Cl E m_X2_changeBy d [va_rf (some m), .long v1] (tw w0 m S) (c_i (t_i w0 m (fun z2 S1 => (if (Int32.toInt (lg_cmp v1 6582115)) = 0 then pw_Cl E m_X2_docLine d [va_rf (some m), .int (iI v3)] (tw w0 m S1) (c_z (t_b w0 m (fun b4 S3 => Post (.inl (some (.int (bI b4)))) (tw w0 m S3)))) else (rI z2 ∧ if z2 = (-1) then pw_Cl E m_X2_fails d [va_rf (some m)] (tw w0 m S1) (c_z (t_b w0 m (fun b6 S5 => Post (.inl (some (.int (bI b6)))) (tw w0 m S5)))) else pw_Cl E m_X2_changeLine d [va_rf (some m), .int (iI z2), .int (iI v3)] (tw w0 m S1) (c_z (t_b w0 m (fun b8 S7 => Post (.inl (some (.int (bI b8)))) (tw w0 m S7)))))))))) : pw_Wp E m_X2_archiveLine (d + 1) 0 [some (va_rf (some m)), some (.long v1), none, some (.int (iI v3)), none] [] (tw w0 m S) Post := by
  refine s_X2_archiveLine_0 (some m) v1 (iI v3) ?_
  refine tw_V ?_
  refine pw_avE (l_k (l_k l_0)) (H.mono (t_iE (fun z2 S1 H => ?_)))
  refine f_eqE (s := (Int32.toInt (lg_cmp v1 6582115))) (t := 0) (iI_oE _) rfl (rI_of _) (by constructor <;> decide) H (fun H => ?_) (fun H => ?_)
  · refine tw_V ?_
    refine pw_avE (l_k (l_i rfl l_0)) (H.mono (t_bE (fun b4 S3 H => ?_)))
    exact H
  · obtain ⟨h9, H⟩ := H
    refine f_eqE (s := z2) (t := (-1)) rfl rfl h9 (by constructor <;> decide) H (fun H => ?_) (fun H => ?_)
    · refine tw_V ?_
      refine pw_avE (l_k l_0) (H.mono (t_bE (fun b6 S5 H => ?_)))
      exact H
    · refine tw_V ?_
      refine pw_avE (l_k (l_i rfl (l_i rfl l_0))) (H.mono (t_bE (fun b8 S7 H => ?_)))
      exact H
theorem t_X2_areAlike_0 {E : pw_E} {d : Nat} {w0 : pw_W} {m : Nat} {S : tw_S} {Post : pw_R → pw_W → Prop} (hm : pw_base E ≤ m) (v1 : Int) (v2 : Int) (v3 : Int) (v4 : Int) (H : pw_Cl E m_X2_longOf d [va_rf (some m), .int (iI v1), .int (iI v2)] (tw w0 m S) (c_i (t_i w0 m (fun z2 S1 => pw_Cl E m_X2_longOf d [va_rf (some m), .int (iI v3), .int (iI v4)] (tw w0 m S1) (c_i (t_i w0 m (fun z4 S3 => (rI z2 ∧ rI z4 ∧ if z2 = z4 then pw_Wp E m_X2_areAlike (d + 1) 26 [some (va_rf (some m)), some (.int (iI v1)), some (.int (iI v2)), some (.int (iI v3)), some (.int (iI v4)), some (.int (iI 1)), some (.int (iI 0))] [] (tw w0 m S3) Post else pw_Wp E m_X2_areAlike (d + 1) 26 [some (va_rf (some m)), some (.int (iI v1)), some (.int (iI v2)), some (.int (iI v3)), some (.int (iI v4)), some (.int (iI 0)), some (.int (iI 0))] [] (tw w0 m S3) Post)))))))) : pw_Wp E m_X2_areAlike (d + 1) 0 [some (va_rf (some m)), some (.int (iI v1)), some (.int (iI v2)), some (.int (iI v3)), some (.int (iI v4)), none, none] [] (tw w0 m S) Post := by
  refine s_X2_areAlike_0 (some m) (iI v1) (iI v2) (iI v3) (iI v4) ?_
  refine tw_V ?_
  refine pw_avE (l_k (l_i rfl (l_i rfl l_0))) (H.mono (t_iE (fun z2 S1 H => ?_)))
  refine tw_V ?_
  refine pw_avE (l_k (l_i rfl (l_i rfl l_0))) (H.mono (t_iE (fun z4 S3 H => ?_)))
  obtain ⟨h5, H⟩ := H
  obtain ⟨h6, H⟩ := H
  refine f_eqE (s := z2) (t := z4) rfl rfl h5 h6 H (fun H => ?_) (fun H => ?_)
  · exact pw_eqL (g_k (g_i rfl (g_i rfl (g_i rfl (g_i rfl (g_i rfl (g_i rfl g_0))))))) H
  · exact pw_eqL (g_k (g_i rfl (g_i rfl (g_i rfl (g_i rfl (g_i rfl (g_i rfl g_0))))))) H
theorem t_X2_areAlike_26 {E : pw_E} {d : Nat} {w0 : pw_W} {m : Nat} {S : tw_S} {Post : pw_R → pw_W → Prop} (hm : pw_base E ≤ m) (v1 : Int) (v2 : Int) (v3 : Int) (v4 : Int) (v5 : Int) (v6 : Int) (H : pw_Cl E m_X2_longOf d [va_rf (some m), .int (iI v1), .int (iI v2)] (tw w0 m S) (c_i (t_i w0 m (fun z2 S1 => (rI z2 ∧ rI v6 ∧ if z2 ≤ v6 then ((v5 = (0 : Int) ∨ v5 = (1 : Int)) ∧ Post (.inl (some (.int (iI v5)))) (tw w0 m S1)) else (rI v5 ∧ if v5 = 0 then ((v5 = (0 : Int) ∨ v5 = (1 : Int)) ∧ Post (.inl (some (.int (iI v5)))) (tw w0 m S1)) else pw_Cl E m_X2_wordAt d [va_rf (some m), .int (iI v1), .int (iI v2), .int (iI v6)] (tw w0 m S1) (c_i (t_i w0 m (fun z6 S5 => pw_Cl E m_X2_wordAt d [va_rf (some m), .int (iI v3), .int (iI v4), .int (iI v6)] (tw w0 m S5) (c_i (t_i w0 m (fun z8 S7 => (rI z6 ∧ rI z8 ∧ if z6 = z8 then pw_Wp E m_X2_areAlike (d + 1) 26 [some (va_rf (some m)), some (.int (iI v1)), some (.int (iI v2)), some (.int (iI v3)), some (.int (iI v4)), some (.int (iI 1)), some (.int (iI (v6 + 1)))] [] (tw w0 m S7) Post else pw_Wp E m_X2_areAlike (d + 1) 26 [some (va_rf (some m)), some (.int (iI v1)), some (.int (iI v2)), some (.int (iI v3)), some (.int (iI v4)), some (.int (iI 0)), some (.int (iI (v6 + 1)))] [] (tw w0 m S7) Post))))))))))))) : pw_Wp E m_X2_areAlike (d + 1) 26 [some (va_rf (some m)), some (.int (iI v1)), some (.int (iI v2)), some (.int (iI v3)), some (.int (iI v4)), some (.int (iI v5)), some (.int (iI v6))] [] (tw w0 m S) Post := by
  refine s_X2_areAlike_26 (some m) (iI v1) (iI v2) (iI v3) (iI v4) (iI v5) (iI v6) ?_
  refine tw_V ?_
  refine pw_avE (l_k (l_i rfl (l_i rfl l_0))) (H.mono (t_iE (fun z2 S1 H => ?_)))
  obtain ⟨h12, H⟩ := H
  obtain ⟨h13, H⟩ := H
  refine f_leE (s := z2) (t := v6) rfl rfl h12 h13 H (fun H => ?_) (fun H => ?_)
  · obtain ⟨h3, H⟩ := H
    exact ⟨nar_01 rfl h3, c_pi rfl H⟩
  · obtain ⟨h11, H⟩ := H
    refine f_eqE (s := v5) (t := 0) rfl rfl h11 (by constructor <;> decide) H (fun H => ?_) (fun H => ?_)
    · obtain ⟨h4, H⟩ := H
      exact ⟨nar_01 rfl h4, c_pi rfl H⟩
    · refine tw_V ?_
      refine pw_avE (l_k (l_i rfl (l_i rfl (l_i rfl l_0)))) (H.mono (t_iE (fun z6 S5 H => ?_)))
      refine tw_V ?_
      refine pw_avE (l_k (l_i rfl (l_i rfl (l_i rfl l_0)))) (H.mono (t_iE (fun z8 S7 H => ?_)))
      obtain ⟨h9, H⟩ := H
      obtain ⟨h10, H⟩ := H
      refine f_eqE (s := z6) (t := z8) rfl rfl h9 h10 H (fun H => ?_) (fun H => ?_)
      · exact pw_eqL (g_k (g_i rfl (g_i rfl (g_i rfl (g_i rfl (g_i rfl (g_i (iI_addE rfl rfl) g_0))))))) H
      · exact pw_eqL (g_k (g_i rfl (g_i rfl (g_i rfl (g_i rfl (g_i rfl (g_i (iI_addE rfl rfl) g_0))))))) H
theorem t_X2_areNear_0 {E : pw_E} {d : Nat} {w0 : pw_W} {m : Nat} {S : tw_S} {Post : pw_R → pw_W → Prop} (hm : pw_base E ≤ m) (v1 : Int) (v2 : Int) (v3 : Int) (H : pw_Wp E m_X2_areNear (d + 1) 6 [some (va_rf (some m)), some (.int (iI v1)), some (.int (iI v2)), some (.int (iI v3)), some (.int (iI 0)), some (.int (iI 0)), none, none] [] (tw w0 m S) Post) : pw_Wp E m_X2_areNear (d + 1) 0 [some (va_rf (some m)), some (.int (iI v1)), some (.int (iI v2)), some (.int (iI v3)), none, none, none, none] [] (tw w0 m S) Post := by
  refine s_X2_areNear_0 (some m) (iI v1) (iI v2) (iI v3) ?_
  exact pw_eqL (g_k (g_i rfl (g_i rfl (g_i rfl (g_i rfl (g_i rfl (g_k (g_k g_0)))))))) H
theorem t_X2_areNear_6 {E : pw_E} {d : Nat} {w0 : pw_W} {m : Nat} {S : tw_S} {Post : pw_R → pw_W → Prop} (hm : pw_base E ≤ m) (v1 : Int) (v2 : Int) (v3 : Int) (v4 : Int) (v5 : Int) (H : pw_Cl E m_X2_longOf d [va_rf (some m), .int (iI v2), .int (iI v3)] (tw w0 m S) (c_i (t_i w0 m (fun z2 S1 => (rI z2 ∧ rI v5 ∧ if z2 ≤ v5 then ((v4 = (0 : Int) ∨ v4 = (1 : Int)) ∧ Post (.inl (some (.int (iI v4)))) (tw w0 m S1)) else pw_Wp E m_X2_areNear (d + 1) 20 [some (va_rf (some m)), some (.int (iI v1)), some (.int (iI v2)), some (.int (iI v3)), some (.int (iI v4)), some (.int (iI v5)), some (.int (iI 0)), none] [] (tw w0 m S1) Post))))) : pw_Wp E m_X2_areNear (d + 1) 6 [some (va_rf (some m)), some (.int (iI v1)), some (.int (iI v2)), some (.int (iI v3)), some (.int (iI v4)), some (.int (iI v5)), none, none] [] (tw w0 m S) Post := by
  refine s_X2_areNear_6 (some m) (iI v1) (iI v2) (iI v3) (iI v4) (iI v5) ?_
  refine tw_V ?_
  refine pw_avE (l_k (l_i rfl (l_i rfl l_0))) (H.mono (t_iE (fun z2 S1 H => ?_)))
  obtain ⟨h4, H⟩ := H
  obtain ⟨h5, H⟩ := H
  refine f_leE (s := z2) (t := v5) rfl rfl h4 h5 H (fun H => ?_) (fun H => ?_)
  · obtain ⟨h3, H⟩ := H
    exact ⟨nar_01 rfl h3, c_pi rfl H⟩
  · exact pw_eqL (g_k (g_i rfl (g_i rfl (g_i rfl (g_i rfl (g_i rfl (g_i rfl (g_k g_0)))))))) H
theorem t_X2_areNear_20 {E : pw_E} {d : Nat} {w0 : pw_W} {m : Nat} {S : tw_S} {Post : pw_R → pw_W → Prop} (hm : pw_base E ≤ m) (v1 : Int) (v2 : Int) (v3 : Int) (v4 : Int) (v5 : Int) (v6 : Int) (H : pw_Cl E m_X2_longOf d [va_rf (some m), .int (iI v2), .int (iI v3)] (tw w0 m S) (c_i (t_i w0 m (fun z2 S1 => (rI z2 ∧ rI v6 ∧ if z2 ≤ v6 then pw_Wp E m_X2_areNear (d + 1) 6 [some (va_rf (some m)), some (.int (iI v1)), some (.int (iI v2)), some (.int (iI v3)), some (.int (iI v4)), some (.int (iI (v5 + 1))), none, none] [] (tw w0 m S1) Post else (rI v6 ∧ rI v5 ∧ if v6 ≤ v5 then (rI v4 ∧ if v4 = 0 then pw_Cl E m_X2_ofAsking d [va_rf (some m), .int (iI v1), .int (iI 1)] (tw w0 m S1) (c_i (t_i w0 m (fun z4 S3 => pw_Cl E m_X2_in d [.int (iI (v5 - v6)), .int (iI 1), .int (iI z4)] (tw w0 m S3) (c_z (t_b w0 m (fun b6 S5 => (if b6 = true then pw_Cl E m_X2_wordAt d [va_rf (some m), .int (iI v2), .int (iI v3), .int (iI v5)] (tw w0 m S5) (c_i (t_i w0 m (fun z8 S7 => pw_Cl E m_X2_ofAsking d [va_rf (some m), .int (iI v1), .int (iI 3)] (tw w0 m S7) (c_i (t_i w0 m (fun z10 S9 => (rI z8 ∧ rI z10 ∧ if z8 = z10 then pw_Cl E m_X2_wordAt d [va_rf (some m), .int (iI v2), .int (iI v3), .int (iI v6)] (tw w0 m S9) (c_i (t_i w0 m (fun z12 S11 => pw_Cl E m_X2_ofAsking d [va_rf (some m), .int (iI v1), .int (iI 4)] (tw w0 m S11) (c_i (t_i w0 m (fun z14 S13 => (rI z12 ∧ rI z14 ∧ if z12 = z14 then pw_Wp E m_X2_areNear (d + 1) 20 [some (va_rf (some m)), some (.int (iI v1)), some (.int (iI v2)), some (.int (iI v3)), some (.int (iI 1)), some (.int (iI v5)), some (.int (iI (v6 + 1))), none] [] (tw w0 m S13) Post else pw_Wp E m_X2_areNear (d + 1) 20 [some (va_rf (some m)), some (.int (iI v1)), some (.int (iI v2)), some (.int (iI v3)), some (.int (iI 0)), some (.int (iI v5)), some (.int (iI (v6 + 1))), none] [] (tw w0 m S13) Post))))))) else pw_Wp E m_X2_areNear (d + 1) 20 [some (va_rf (some m)), some (.int (iI v1)), some (.int (iI v2)), some (.int (iI v3)), some (.int (iI 0)), some (.int (iI v5)), some (.int (iI (v6 + 1))), none] [] (tw w0 m S9) Post))))))) else pw_Wp E m_X2_areNear (d + 1) 20 [some (va_rf (some m)), some (.int (iI v1)), some (.int (iI v2)), some (.int (iI v3)), some (.int (iI 0)), some (.int (iI v5)), some (.int (iI (v6 + 1))), none] [] (tw w0 m S5) Post))))))) else pw_Wp E m_X2_areNear (d + 1) 20 [some (va_rf (some m)), some (.int (iI v1)), some (.int (iI v2)), some (.int (iI v3)), some (.int (iI 1)), some (.int (iI v5)), some (.int (iI (v6 + 1))), none] [] (tw w0 m S1) Post) else (rI v4 ∧ if v4 = 0 then pw_Cl E m_X2_ofAsking d [va_rf (some m), .int (iI v1), .int (iI 1)] (tw w0 m S1) (c_i (t_i w0 m (fun z21 S20 => pw_Cl E m_X2_in d [.int (iI (v6 - v5)), .int (iI 1), .int (iI z21)] (tw w0 m S20) (c_z (t_b w0 m (fun b23 S22 => (if b23 = true then pw_Cl E m_X2_wordAt d [va_rf (some m), .int (iI v2), .int (iI v3), .int (iI v5)] (tw w0 m S22) (c_i (t_i w0 m (fun z25 S24 => pw_Cl E m_X2_ofAsking d [va_rf (some m), .int (iI v1), .int (iI 3)] (tw w0 m S24) (c_i (t_i w0 m (fun z27 S26 => (rI z25 ∧ rI z27 ∧ if z25 = z27 then pw_Cl E m_X2_wordAt d [va_rf (some m), .int (iI v2), .int (iI v3), .int (iI v6)] (tw w0 m S26) (c_i (t_i w0 m (fun z29 S28 => pw_Cl E m_X2_ofAsking d [va_rf (some m), .int (iI v1), .int (iI 4)] (tw w0 m S28) (c_i (t_i w0 m (fun z31 S30 => (rI z29 ∧ rI z31 ∧ if z29 = z31 then pw_Wp E m_X2_areNear (d + 1) 20 [some (va_rf (some m)), some (.int (iI v1)), some (.int (iI v2)), some (.int (iI v3)), some (.int (iI 1)), some (.int (iI v5)), some (.int (iI (v6 + 1))), none] [] (tw w0 m S30) Post else pw_Wp E m_X2_areNear (d + 1) 20 [some (va_rf (some m)), some (.int (iI v1)), some (.int (iI v2)), some (.int (iI v3)), some (.int (iI 0)), some (.int (iI v5)), some (.int (iI (v6 + 1))), none] [] (tw w0 m S30) Post))))))) else pw_Wp E m_X2_areNear (d + 1) 20 [some (va_rf (some m)), some (.int (iI v1)), some (.int (iI v2)), some (.int (iI v3)), some (.int (iI 0)), some (.int (iI v5)), some (.int (iI (v6 + 1))), none] [] (tw w0 m S26) Post))))))) else pw_Wp E m_X2_areNear (d + 1) 20 [some (va_rf (some m)), some (.int (iI v1)), some (.int (iI v2)), some (.int (iI v3)), some (.int (iI 0)), some (.int (iI v5)), some (.int (iI (v6 + 1))), none] [] (tw w0 m S22) Post))))))) else pw_Wp E m_X2_areNear (d + 1) 20 [some (va_rf (some m)), some (.int (iI v1)), some (.int (iI v2)), some (.int (iI v3)), some (.int (iI 1)), some (.int (iI v5)), some (.int (iI (v6 + 1))), none] [] (tw w0 m S1) Post))))))) : pw_Wp E m_X2_areNear (d + 1) 20 [some (va_rf (some m)), some (.int (iI v1)), some (.int (iI v2)), some (.int (iI v3)), some (.int (iI v4)), some (.int (iI v5)), some (.int (iI v6)), none] [] (tw w0 m S) Post := by
  refine s_X2_areNear_20 (some m) (iI v1) (iI v2) (iI v3) (iI v4) (iI v5) (iI v6) ?_
  refine tw_V ?_
  refine pw_avE (l_k (l_i rfl (l_i rfl l_0))) (H.mono (t_iE (fun z2 S1 H => ?_)))
  obtain ⟨h39, H⟩ := H
  obtain ⟨h40, H⟩ := H
  refine f_leE (s := z2) (t := v6) rfl rfl h39 h40 H (fun H => ?_) (fun H => ?_)
  · exact pw_eqL (g_k (g_i rfl (g_i rfl (g_i rfl (g_i rfl (g_i (iI_addE rfl rfl) (g_k (g_k g_0)))))))) H
  · obtain ⟨h37, H⟩ := H
    obtain ⟨h38, H⟩ := H
    refine f_leE (s := v6) (t := v5) rfl rfl h37 h38 H (fun H => ?_) (fun H => ?_)
    · obtain ⟨h19, H⟩ := H
      refine f_eqE (s := v4) (t := 0) rfl rfl h19 (by constructor <;> decide) H (fun H => ?_) (fun H => ?_)
      · refine tw_V ?_
        refine pw_avE (l_k (l_i rfl (l_i rfl l_0))) (H.mono (t_iE (fun z4 S3 H => ?_)))
        refine pw_avE (l_i (iI_subE rfl rfl) (l_i rfl (l_i rfl l_0))) (H.mono (t_bE (fun b6 S5 H => ?_)))
        refine f_bE H (fun H => ?_) (fun H => ?_)
        · exact pw_eqL (g_k (g_i rfl (g_i rfl (g_i rfl (g_i rfl (g_i rfl (g_i (iI_addE rfl rfl) (g_k g_0)))))))) H
        · refine tw_V ?_
          refine pw_avE (l_k (l_i rfl (l_i rfl (l_i rfl l_0)))) (H.mono (t_iE (fun z8 S7 H => ?_)))
          refine tw_V ?_
          refine pw_avE (l_k (l_i rfl (l_i rfl l_0))) (H.mono (t_iE (fun z10 S9 H => ?_)))
          obtain ⟨h17, H⟩ := H
          obtain ⟨h18, H⟩ := H
          refine f_eqE (s := z8) (t := z10) rfl rfl h17 h18 H (fun H => ?_) (fun H => ?_)
          · refine tw_V ?_
            refine pw_avE (l_k (l_i rfl (l_i rfl (l_i rfl l_0)))) (H.mono (t_iE (fun z12 S11 H => ?_)))
            refine tw_V ?_
            refine pw_avE (l_k (l_i rfl (l_i rfl l_0))) (H.mono (t_iE (fun z14 S13 H => ?_)))
            obtain ⟨h15, H⟩ := H
            obtain ⟨h16, H⟩ := H
            refine f_eqE (s := z12) (t := z14) rfl rfl h15 h16 H (fun H => ?_) (fun H => ?_)
            · exact pw_eqL (g_k (g_i rfl (g_i rfl (g_i rfl (g_i rfl (g_i rfl (g_i (iI_addE rfl rfl) (g_k g_0)))))))) H
            · exact pw_eqL (g_k (g_i rfl (g_i rfl (g_i rfl (g_i rfl (g_i rfl (g_i (iI_addE rfl rfl) (g_k g_0)))))))) H
          · exact pw_eqL (g_k (g_i rfl (g_i rfl (g_i rfl (g_i rfl (g_i rfl (g_i (iI_addE rfl rfl) (g_k g_0)))))))) H
      · exact pw_eqL (g_k (g_i rfl (g_i rfl (g_i rfl (g_i rfl (g_i rfl (g_i (iI_addE rfl rfl) (g_k g_0)))))))) H
    · obtain ⟨h36, H⟩ := H
      refine f_eqE (s := v4) (t := 0) rfl rfl h36 (by constructor <;> decide) H (fun H => ?_) (fun H => ?_)
      · refine tw_V ?_
        refine pw_avE (l_k (l_i rfl (l_i rfl l_0))) (H.mono (t_iE (fun z21 S20 H => ?_)))
        refine pw_avE (l_i (iI_subE rfl rfl) (l_i rfl (l_i rfl l_0))) (H.mono (t_bE (fun b23 S22 H => ?_)))
        refine f_bE H (fun H => ?_) (fun H => ?_)
        · exact pw_eqL (g_k (g_i rfl (g_i rfl (g_i rfl (g_i rfl (g_i rfl (g_i (iI_addE rfl rfl) (g_k g_0)))))))) H
        · refine tw_V ?_
          refine pw_avE (l_k (l_i rfl (l_i rfl (l_i rfl l_0)))) (H.mono (t_iE (fun z25 S24 H => ?_)))
          refine tw_V ?_
          refine pw_avE (l_k (l_i rfl (l_i rfl l_0))) (H.mono (t_iE (fun z27 S26 H => ?_)))
          obtain ⟨h34, H⟩ := H
          obtain ⟨h35, H⟩ := H
          refine f_eqE (s := z25) (t := z27) rfl rfl h34 h35 H (fun H => ?_) (fun H => ?_)
          · refine tw_V ?_
            refine pw_avE (l_k (l_i rfl (l_i rfl (l_i rfl l_0)))) (H.mono (t_iE (fun z29 S28 H => ?_)))
            refine tw_V ?_
            refine pw_avE (l_k (l_i rfl (l_i rfl l_0))) (H.mono (t_iE (fun z31 S30 H => ?_)))
            obtain ⟨h32, H⟩ := H
            obtain ⟨h33, H⟩ := H
            refine f_eqE (s := z29) (t := z31) rfl rfl h32 h33 H (fun H => ?_) (fun H => ?_)
            · exact pw_eqL (g_k (g_i rfl (g_i rfl (g_i rfl (g_i rfl (g_i rfl (g_i (iI_addE rfl rfl) (g_k g_0)))))))) H
            · exact pw_eqL (g_k (g_i rfl (g_i rfl (g_i rfl (g_i rfl (g_i rfl (g_i (iI_addE rfl rfl) (g_k g_0)))))))) H
          · exact pw_eqL (g_k (g_i rfl (g_i rfl (g_i rfl (g_i rfl (g_i rfl (g_i (iI_addE rfl rfl) (g_k g_0)))))))) H
      · exact pw_eqL (g_k (g_i rfl (g_i rfl (g_i rfl (g_i rfl (g_i rfl (g_i (iI_addE rfl rfl) (g_k g_0)))))))) H
theorem t_X2_asOf_0 {E : pw_E} {d : Nat} {w0 : pw_W} {m : Nat} {S : tw_S} {Post : pw_R → pw_W → Prop} (hm : pw_base E ≤ m) (v1 : Int) (v2 : Int) (H : pw_Wp E m_X2_asOf (d + 1) 5 [some (va_rf (some m)), some (.int (iI v1)), some (.int (iI v2)), some (.int (iI 0)), some (.int (iI 0)), none, none] [] (tw w0 m S) Post) : pw_Wp E m_X2_asOf (d + 1) 0 [some (va_rf (some m)), some (.int (iI v1)), some (.int (iI v2)), none, none, none, none] [] (tw w0 m S) Post := by
  refine s_X2_asOf_0 (some m) (iI v1) (iI v2) ?_
  exact pw_eqL (g_k (g_i rfl (g_i rfl (g_i rfl (g_i rfl (g_k (g_k g_0))))))) H
theorem t_X2_asOf_5 {E : pw_E} {d : Nat} {w0 : pw_W} {m : Nat} {S : tw_S} {Post : pw_R → pw_W → Prop} (hm : pw_base E ≤ m) (v1 : Int) (v2 : Int) (v3 : Int) (v4 : Int) (H : (rI (S.2.2 9 0) ∧ rI v4 ∧ if (S.2.2 9 0) ≤ v4 then Post (.inl (some (.int (iI v3)))) (tw w0 m S) else pw_Wp E m_X2_asOf (d + 1) 22 [some (va_rf (some m)), some (.int (iI v1)), some (.int (iI v2)), some (.int (iI v3)), some (.int (iI v4)), some (.int (iI (-1))), some (.int (iI 0))] [] (tw w0 m S) Post)) : pw_Wp E m_X2_asOf (d + 1) 5 [some (va_rf (some m)), some (.int (iI v1)), some (.int (iI v2)), some (.int (iI v3)), some (.int (iI v4)), none, none] [] (tw w0 m S) Post := by
  refine s_X2_asOf_5 (some m) (iI v1) (iI v2) (iI v3) (iI v4) ?_
  refine tw_getr rfl ?_
  refine tw_aldi (k := 9) (t := 0) rfl rfl (by decide) (by decide) ?_
  obtain ⟨h3, H⟩ := H
  obtain ⟨h4, H⟩ := H
  refine f_leE (s := (S.2.2 9 0)) (t := v4) rfl rfl h3 h4 H (fun H => ?_) (fun H => ?_)
  · exact c_pi rfl H
  · exact pw_eqL (g_k (g_i rfl (g_i rfl (g_i rfl (g_i rfl (g_i rfl (g_i rfl g_0))))))) H
theorem t_X2_asOf_22 {E : pw_E} {d : Nat} {w0 : pw_W} {m : Nat} {S : tw_S} {Post : pw_R → pw_W → Prop} (hm : pw_base E ≤ m) (v1 : Int) (v2 : Int) (v3 : Int) (v4 : Int) (v5 : Int) (v6 : Int) (H : pw_Cl E m_X2_versions d [va_rf (some m), .int (iI v4)] (tw w0 m S) (c_i (t_i w0 m (fun z2 S1 => (rI z2 ∧ rI v6 ∧ if z2 ≤ v6 then (rI v5 ∧ if v5 = (-1) then pw_Wp E m_X2_asOf (d + 1) 5 [some (va_rf (some m)), some (.int (iI v1)), some (.int (iI v2)), some (.int (iI (Int32.toInt ((iI v3) ||| 0)))), some (.int (iI (v4 + 1))), none, none] [] (tw w0 m S1) Post else ((0 : Int) ≤ ((4 * v1) + v4) ∧ ((4 * v1) + v4) < 32 ∧ pw_Cl E m_X2_has d [.int (iI (S1.2.2 14 (Int.toNat ((4 * v1) + v4)))), .int (iI v5)] (tw w0 m S1) (c_z (t_b w0 m (fun b6 S5 => (if b6 = true then pw_Wp E m_X2_asOf (d + 1) 5 [some (va_rf (some m)), some (.int (iI v1)), some (.int (iI v2)), some (.int (iI (Int32.toInt ((iI v3) ||| (1 <<< ((iI v4) &&& 31)))))), some (.int (iI (v4 + 1))), none, none] [] (tw w0 m S5) Post else pw_Wp E m_X2_asOf (d + 1) 5 [some (va_rf (some m)), some (.int (iI v1)), some (.int (iI v2)), some (.int (iI (Int32.toInt ((iI v3) ||| 0)))), some (.int (iI (v4 + 1))), none, none] [] (tw w0 m S5) Post)))))) else pw_Cl E m_X2_at d [.int (iI v4), .int (iI v6)] (tw w0 m S1) (c_i (t_i w0 m (fun z9 S8 => ((0 : Int) ≤ (6 + z9) ∧ (6 + z9) < 1526 ∧ (rI v2 ∧ rI (S8.2.2 9 (Int.toNat (6 + z9))) ∧ if v2 < (S8.2.2 9 (Int.toNat (6 + z9))) then pw_Wp E m_X2_asOf (d + 1) 22 [some (va_rf (some m)), some (.int (iI v1)), some (.int (iI v2)), some (.int (iI v3)), some (.int (iI v4)), some (.int (iI v5)), some (.int (iI (v6 + 1)))] [] (tw w0 m S8) Post else pw_Wp E m_X2_asOf (d + 1) 22 [some (va_rf (some m)), some (.int (iI v1)), some (.int (iI v2)), some (.int (iI v3)), some (.int (iI v4)), some (.int (iI v6)), some (.int (iI (v6 + 1)))] [] (tw w0 m S8) Post)))))))))) : pw_Wp E m_X2_asOf (d + 1) 22 [some (va_rf (some m)), some (.int (iI v1)), some (.int (iI v2)), some (.int (iI v3)), some (.int (iI v4)), some (.int (iI v5)), some (.int (iI v6))] [] (tw w0 m S) Post := by
  refine s_X2_asOf_22 (some m) (iI v1) (iI v2) (iI v3) (iI v4) (iI v5) (iI v6) ?_
  refine tw_V ?_
  refine pw_avE (l_k (l_i rfl l_0)) (H.mono (t_iE (fun z2 S1 H => ?_)))
  obtain ⟨h14, H⟩ := H
  obtain ⟨h15, H⟩ := H
  refine f_leE (s := z2) (t := v6) rfl rfl h14 h15 H (fun H => ?_) (fun H => ?_)
  · obtain ⟨h7, H⟩ := H
    refine f_eqE (s := v5) (t := (-1)) rfl rfl h7 (by constructor <;> decide) H (fun H => ?_) (fun H => ?_)
    · exact pw_eqL (g_k (g_i rfl (g_i rfl (g_i (iI_oE _) (g_i (iI_addE rfl rfl) (g_k (g_k g_0))))))) H
    · refine tw_getr rfl ?_
      obtain ⟨h3, h4, H⟩ := H
      refine tw_aldi (k := 14) (t := ((4 * v1) + v4)) rfl (iI_addE (iI_mulE rfl rfl) rfl) h3 h4 ?_
      refine pw_avE (l_i rfl (l_i rfl l_0)) (H.mono (t_bE (fun b6 S5 H => ?_)))
      refine f_bE H (fun H => ?_) (fun H => ?_)
      · exact pw_eqL (g_k (g_i rfl (g_i rfl (g_i (iI_oE _) (g_i (iI_addE rfl rfl) (g_k (g_k g_0))))))) H
      · exact pw_eqL (g_k (g_i rfl (g_i rfl (g_i (iI_oE _) (g_i (iI_addE rfl rfl) (g_k (g_k g_0))))))) H
  · refine tw_getr rfl ?_
    refine pw_avE (l_i rfl (l_i rfl l_0)) (H.mono (t_iE (fun z9 S8 H => ?_)))
    obtain ⟨h10, h11, H⟩ := H
    refine tw_aldi (k := 9) (t := (6 + z9)) rfl (iI_addE rfl rfl) h10 h11 ?_
    obtain ⟨h12, H⟩ := H
    obtain ⟨h13, H⟩ := H
    refine f_ltE (s := v2) (t := (S8.2.2 9 (Int.toNat (6 + z9)))) rfl rfl h12 h13 H (fun H => ?_) (fun H => ?_)
    · exact pw_eqL (g_k (g_i rfl (g_i rfl (g_i rfl (g_i rfl (g_i rfl (g_i (iI_addE rfl rfl) g_0))))))) H
    · exact pw_eqL (g_k (g_i rfl (g_i rfl (g_i rfl (g_i rfl (g_i rfl (g_i (iI_addE rfl rfl) g_0))))))) H
theorem t_X2_askWhere_0 {E : pw_E} {d : Nat} {w0 : pw_W} {m : Nat} {S : tw_S} {Post : pw_R → pw_W → Prop} (hm : pw_base E ≤ m)  (H : pw_Wp E m_X2_askWhere (d + 1) 8 [some (va_rf (some m)), some (.int (iI (-1))), some (.int (iI 1000000)), some (.int (iI 0)), none] [] (tw w0 m S) Post) : pw_Wp E m_X2_askWhere (d + 1) 0 [some (va_rf (some m)), none, none, none, none] [] (tw w0 m S) Post := by
  refine s_X2_askWhere_0 (some m) ?_
  exact pw_eqL (g_k (g_i rfl (g_i rfl (g_i rfl (g_k g_0))))) H
theorem t_X2_askWhere_8 {E : pw_E} {d : Nat} {w0 : pw_W} {m : Nat} {S : tw_S} {Post : pw_R → pw_W → Prop} (hm : pw_base E ≤ m) (v1 : Int) (v2 : Int) (v3 : Int) (H : (rI v3 ∧ if (40 : Int) ≤ v3 then Post (.inl (some (.int (iI v1)))) (tw w0 m S) else (rI (S.1 31) ∧ if (S.1 31) ≤ 0 then Post (.inl (some (.int (iI v1)))) (tw w0 m S) else ((0 : Int) ≤ v3 ∧ v3 < 40 ∧ ((0 : Int) ≤ v3 ∧ v3 < 40 ∧ pw_Cl E m_X2_greater d [.int (iI (S.2.2 15 (Int.toNat v3))), .int (iI ((S.1 31) - (S.2.2 15 (Int.toNat v3))))] (tw w0 m S) (c_i (t_i w0 m (fun z6 S5 => pw_Cl E m_X2_isVersion d [va_rf (some m), .int (iI (Int32.toInt ((iI v3) / 10))), .int (iI (Int32.toInt ((iI v3) - (iI v3) / 10 * 10)))] (tw w0 m S5) (c_z (t_b w0 m (fun b8 S7 => (if b8 = true then (rI v2 ∧ rI z6 ∧ if v2 ≤ z6 then pw_Wp E m_X2_askWhere (d + 1) 8 [some (va_rf (some m)), some (.int (iI v1)), some (.int (iI v2)), some (.int (iI (v3 + 1))), none] [] (tw w0 m S7) Post else pw_Wp E m_X2_askWhere (d + 1) 8 [some (va_rf (some m)), some (.int (iI v3)), some (.int (iI z6)), some (.int (iI (v3 + 1))), none] [] (tw w0 m S7) Post) else pw_Wp E m_X2_askWhere (d + 1) 8 [some (va_rf (some m)), some (.int (iI v1)), some (.int (iI v2)), some (.int (iI (v3 + 1))), none] [] (tw w0 m S7) Post)))))))))))) : pw_Wp E m_X2_askWhere (d + 1) 8 [some (va_rf (some m)), some (.int (iI v1)), some (.int (iI v2)), some (.int (iI v3)), none] [] (tw w0 m S) Post := by
  refine s_X2_askWhere_8 (some m) (iI v1) (iI v2) (iI v3) ?_
  obtain ⟨h12, H⟩ := H
  refine f_leE (s := 40) (t := v3) rfl rfl (by constructor <;> decide) h12 H (fun H => ?_) (fun H => ?_)
  · exact c_pi rfl H
  · refine tw_geti rfl ?_
    obtain ⟨h11, H⟩ := H
    refine f_leE (s := (S.1 31)) (t := 0) rfl rfl h11 (by constructor <;> decide) H (fun H => ?_) (fun H => ?_)
    · exact c_pi rfl H
    · refine tw_getr rfl ?_
      obtain ⟨h1, h2, H⟩ := H
      refine tw_aldi (k := 15) (t := v3) rfl rfl h1 h2 ?_
      refine tw_geti rfl ?_
      refine tw_getr rfl ?_
      obtain ⟨h3, h4, H⟩ := H
      refine tw_aldi (k := 15) (t := v3) rfl rfl h3 h4 ?_
      refine pw_avE (l_i rfl (l_i (iI_subE rfl rfl) l_0)) (H.mono (t_iE (fun z6 S5 H => ?_)))
      refine tw_V ?_
      refine pw_avE (l_k (l_i (iI_oE _) (l_i (iI_oE _) l_0))) (H.mono (t_bE (fun b8 S7 H => ?_)))
      refine f_bE H (fun H => ?_) (fun H => ?_)
      · exact pw_eqL (g_k (g_i rfl (g_i rfl (g_i (iI_addE rfl rfl) (g_k g_0))))) H
      · obtain ⟨h9, H⟩ := H
        obtain ⟨h10, H⟩ := H
        refine f_leE (s := v2) (t := z6) rfl rfl h9 h10 H (fun H => ?_) (fun H => ?_)
        · exact pw_eqL (g_k (g_i rfl (g_i rfl (g_i (iI_addE rfl rfl) (g_k g_0))))) H
        · exact pw_eqL (g_k (g_i rfl (g_i rfl (g_i (iI_addE rfl rfl) (g_k g_0))))) H
theorem t_X2_askedMany_0 {E : pw_E} {d : Nat} {w0 : pw_W} {m : Nat} {S : tw_S} {Post : pw_R → pw_W → Prop} (hm : pw_base E ≤ m)  (H : ((0 : Int) ≤ (57 * (S.1 28)) ∧ (57 * (S.1 28)) < 456 ∧ Post (.inl (some (.int (iI (S.2.2 7 (Int.toNat (57 * (S.1 28)))))))) (tw w0 m S))) : pw_Wp E m_X2_askedMany (d + 1) 0 [some (va_rf (some m))] [] (tw w0 m S) Post := by
  refine s_X2_askedMany_0 (some m) ?_
  refine tw_getr rfl ?_
  refine tw_geti rfl ?_
  obtain ⟨h1, h2, H⟩ := H
  refine tw_aldi (k := 7) (t := (57 * (S.1 28))) rfl (iI_mulE rfl rfl) h1 h2 ?_
  exact c_pi rfl H
theorem t_X2_askingBy_0 {E : pw_E} {d : Nat} {w0 : pw_W} {m : Nat} {S : tw_S} {Post : pw_R → pw_W → Prop} (hm : pw_base E ≤ m) (v1 : Int64) (H : (if (Int32.toInt (lg_cmp v1 123593897898853)) = 0 then Post (.inl (some (.int (iI 0)))) (tw w0 m S) else (if (Int32.toInt (lg_cmp v1 1852137842)) = 0 then Post (.inl (some (.int (iI 1)))) (tw w0 m S) else (if (Int32.toInt (lg_cmp v1 1835101817)) = 0 then Post (.inl (some (.int (iI 2)))) (tw w0 m S) else (if (Int32.toInt (lg_cmp v1 7237492)) = 0 then Post (.inl (some (.int (iI 3)))) (tw w0 m S) else (if (Int32.toInt (lg_cmp v1 1702258034)) = 0 then Post (.inl (some (.int (iI 4)))) (tw w0 m S) else (if (Int32.toInt (lg_cmp v1 7234935)) = 0 then Post (.inl (some (.int (iI 5)))) (tw w0 m S) else (if (Int32.toInt (lg_cmp v1 6385252)) = 0 then Post (.inl (some (.int (iI 6)))) (tw w0 m S) else (if (Int32.toInt (lg_cmp v1 28530)) = 0 then Post (.inl (some (.int (iI 7)))) (tw w0 m S) else Post (.inl (some (.int (iI (-1))))) (tw w0 m S)))))))))) : pw_Wp E m_X2_askingBy (d + 1) 0 [some (va_rf (some m)), some (.long v1), none] [] (tw w0 m S) Post := by
  refine s_X2_askingBy_0 (some m) v1 ?_
  refine f_eqE (s := (Int32.toInt (lg_cmp v1 123593897898853))) (t := 0) (iI_oE _) rfl (rI_of _) (by constructor <;> decide) H (fun H => ?_) (fun H => ?_)
  · exact c_pi rfl H
  · refine f_eqE (s := (Int32.toInt (lg_cmp v1 1852137842))) (t := 0) (iI_oE _) rfl (rI_of _) (by constructor <;> decide) H (fun H => ?_) (fun H => ?_)
    · exact c_pi rfl H
    · refine f_eqE (s := (Int32.toInt (lg_cmp v1 1835101817))) (t := 0) (iI_oE _) rfl (rI_of _) (by constructor <;> decide) H (fun H => ?_) (fun H => ?_)
      · exact c_pi rfl H
      · refine f_eqE (s := (Int32.toInt (lg_cmp v1 7237492))) (t := 0) (iI_oE _) rfl (rI_of _) (by constructor <;> decide) H (fun H => ?_) (fun H => ?_)
        · exact c_pi rfl H
        · refine f_eqE (s := (Int32.toInt (lg_cmp v1 1702258034))) (t := 0) (iI_oE _) rfl (rI_of _) (by constructor <;> decide) H (fun H => ?_) (fun H => ?_)
          · exact c_pi rfl H
          · refine f_eqE (s := (Int32.toInt (lg_cmp v1 7234935))) (t := 0) (iI_oE _) rfl (rI_of _) (by constructor <;> decide) H (fun H => ?_) (fun H => ?_)
            · exact c_pi rfl H
            · refine f_eqE (s := (Int32.toInt (lg_cmp v1 6385252))) (t := 0) (iI_oE _) rfl (rI_of _) (by constructor <;> decide) H (fun H => ?_) (fun H => ?_)
              · exact c_pi rfl H
              · refine f_eqE (s := (Int32.toInt (lg_cmp v1 28530))) (t := 0) (iI_oE _) rfl (rI_of _) (by constructor <;> decide) H (fun H => ?_) (fun H => ?_)
                · exact c_pi rfl H
                · exact c_pi rfl H
theorem t_X2_askingLine_0 {E : pw_E} {d : Nat} {w0 : pw_W} {m : Nat} {S : tw_S} {Post : pw_R → pw_W → Prop} (hm : pw_base E ≤ m) (v1 : Int64) (v3 : Int) (H : pw_Cl E m_X2_askingBy d [va_rf (some m), .long v1] (tw w0 m S) (c_i (t_i w0 m (fun z2 S1 => (rI z2 ∧ if z2 = (-1) then pw_Cl E m_X2_fails d [va_rf (some m)] (tw w0 m S1) (c_z (t_b w0 m (fun b4 S3 => Post (.inl (some (.int (bI b4)))) (tw w0 m S3)))) else (rI (S1.2.2 9 0) ∧ if (S1.2.2 9 0) = 8 then pw_Cl E m_X2_addsFault d [va_rf (some m), .int (iI 3), .int (iI v3)] (tw w0 m S1) (c_v (t_u w0 m (fun S7 => pw_Cl E m_X2_token d [va_rf (some m)] (tw w0 m S7) (c_v (t_u w0 m (fun S8 => pw_Cl E m_X2_readAsking d [va_rf (some m), .int (iI z2), .int (iI (S1.2.2 9 0))] (tw w0 m (tw_sa (tw_sa S8 10 1 (-1)) 10 2 (-1))) (c_z (t_b w0 m (fun b14 S13 => (if b14 = true then pw_Wp E m_X2_askingLine (d + 1) 73 [some (va_rf (some m)), none, none, none, some (.int (iI z2)), some (.int (iI (S1.2.2 9 0))), some (.int (iI 0))] [] (tw w0 m S13) Post else Post (.inl (some (.int (iI 0)))) (tw w0 m S13))))))))))) else pw_Cl E m_X2_token d [va_rf (some m)] (tw w0 m S1) (c_v (t_u w0 m (fun S15 => pw_Cl E m_X2_readAsking d [va_rf (some m), .int (iI z2), .int (iI (S1.2.2 9 0))] (tw w0 m (tw_sa (tw_sa S15 10 1 (-1)) 10 2 (-1))) (c_z (t_b w0 m (fun b21 S20 => (if b21 = true then pw_Wp E m_X2_askingLine (d + 1) 73 [some (va_rf (some m)), none, none, none, some (.int (iI z2)), some (.int (iI (S1.2.2 9 0))), some (.int (iI 0))] [] (tw w0 m S20) Post else Post (.inl (some (.int (iI 0)))) (tw w0 m S20)))))))))))))) : pw_Wp E m_X2_askingLine (d + 1) 0 [some (va_rf (some m)), some (.long v1), none, some (.int (iI v3)), none, none, none] [] (tw w0 m S) Post := by
  refine s_X2_askingLine_0 (some m) v1 (iI v3) ?_
  refine tw_V ?_
  refine pw_avE (l_k (l_k l_0)) (H.mono (t_iE (fun z2 S1 H => ?_)))
  obtain ⟨h23, H⟩ := H
  refine f_eqE (s := z2) (t := (-1)) rfl rfl h23 (by constructor <;> decide) H (fun H => ?_) (fun H => ?_)
  · refine tw_V ?_
    refine pw_avE (l_k l_0) (H.mono (t_bE (fun b4 S3 H => ?_)))
    exact H
  · refine tw_getr rfl ?_
    refine tw_aldi (k := 9) (t := 0) rfl rfl (by decide) (by decide) ?_
    obtain ⟨h22, H⟩ := H
    refine f_eqE (s := (S1.2.2 9 0)) (t := 8) rfl rfl h22 (by constructor <;> decide) H (fun H => ?_) (fun H => ?_)
    · refine tw_V ?_
      refine pw_avE (l_k (l_i rfl (l_i rfl l_0))) (H.mono (t_uE (fun S7 H => ?_)))
      refine tw_V ?_
      refine pw_avE (l_k l_0) (H.mono (t_uE (fun S8 H => ?_)))
      refine tw_getr rfl ?_
      refine tw_asti (k := 10) (t := 1) (x := (-1)) hm rfl rfl (by decide) (by decide) rfl ?_
      refine tw_getr rfl ?_
      refine tw_asti (k := 10) (t := 2) (x := (-1)) hm rfl rfl (by decide) (by decide) rfl ?_
      refine tw_V ?_
      refine pw_avE (l_k (l_i rfl (l_i rfl l_0))) (H.mono (t_bE (fun b14 S13 H => ?_)))
      refine f_bE H (fun H => ?_) (fun H => ?_)
      · exact c_pi rfl H
      · exact pw_eqL (g_k (g_k (g_k (g_k (g_i rfl (g_i rfl (g_i rfl g_0))))))) H
    · refine tw_V ?_
      refine pw_avE (l_k l_0) (H.mono (t_uE (fun S15 H => ?_)))
      refine tw_getr rfl ?_
      refine tw_asti (k := 10) (t := 1) (x := (-1)) hm rfl rfl (by decide) (by decide) rfl ?_
      refine tw_getr rfl ?_
      refine tw_asti (k := 10) (t := 2) (x := (-1)) hm rfl rfl (by decide) (by decide) rfl ?_
      refine tw_V ?_
      refine pw_avE (l_k (l_i rfl (l_i rfl l_0))) (H.mono (t_bE (fun b21 S20 H => ?_)))
      refine f_bE H (fun H => ?_) (fun H => ?_)
      · exact c_pi rfl H
      · exact pw_eqL (g_k (g_k (g_k (g_k (g_i rfl (g_i rfl (g_i rfl g_0))))))) H
theorem t_X2_askingLine_73 {E : pw_E} {d : Nat} {w0 : pw_W} {m : Nat} {S : tw_S} {Post : pw_R → pw_W → Prop} (hm : pw_base E ≤ m) (v4 : Int) (v5 : Int) (v6 : Int) (H : (rI v6 ∧ if (7 : Int) ≤ v6 then pw_Cl E m_X2_lesser d [.int (iI 8), .int (iI (v5 + 1))] (tw w0 m S) (c_i (t_i w0 m (fun z2 S1 => Post (.inl (some (.int (iI 1)))) (tw w0 m (tw_sa S1 9 0 z2))))) else (rI v5 ∧ if (8 : Int) ≤ v5 then pw_Cl E m_X2_lesser d [.int (iI 8), .int (iI (v5 + 1))] (tw w0 m S) (c_i (t_i w0 m (fun z6 S5 => Post (.inl (some (.int (iI 1)))) (tw w0 m (tw_sa S5 9 0 z6))))) else (rI v6 ∧ if v6 = 0 then ((0 : Int) ≤ ((1 + (7 * v5)) + v6) ∧ ((1 + (7 * v5)) + v6) < 1526 ∧ pw_Wp E m_X2_askingLine (d + 1) 73 [some (va_rf (some m)), none, none, none, some (.int (iI v4)), some (.int (iI v5)), some (.int (iI (v6 + 1)))] [] (tw w0 m (tw_sa S 9 (Int.toNat ((1 + (7 * v5)) + v6)) v4)) Post) else (rI v6 ∧ if (3 : Int) ≤ v6 then (rI (S.1 21) ∧ rI (v6 - 3) ∧ if (S.1 21) ≤ (v6 - 3) then ((0 : Int) ≤ ((1 + (7 * v5)) + v6) ∧ ((1 + (7 * v5)) + v6) < 1526 ∧ pw_Wp E m_X2_askingLine (d + 1) 73 [some (va_rf (some m)), none, none, none, some (.int (iI v4)), some (.int (iI v5)), some (.int (iI (v6 + 1)))] [] (tw w0 m (tw_sa S 9 (Int.toNat ((1 + (7 * v5)) + v6)) 0)) Post) else ((0 : Int) ≤ (v6 - 3) ∧ (v6 - 3) < 300 ∧ ((0 : Int) ≤ ((1 + (7 * v5)) + v6) ∧ ((1 + (7 * v5)) + v6) < 1526 ∧ pw_Wp E m_X2_askingLine (d + 1) 73 [some (va_rf (some m)), none, none, none, some (.int (iI v4)), some (.int (iI v5)), some (.int (iI (v6 + 1)))] [] (tw w0 m (tw_sa S 9 (Int.toNat ((1 + (7 * v5)) + v6)) (S.2.2 11 (Int.toNat (v6 - 3))))) Post))) else ((0 : Int) ≤ v6 ∧ v6 < 4 ∧ ((0 : Int) ≤ ((1 + (7 * v5)) + v6) ∧ ((1 + (7 * v5)) + v6) < 1526 ∧ pw_Wp E m_X2_askingLine (d + 1) 73 [some (va_rf (some m)), none, none, none, some (.int (iI v4)), some (.int (iI v5)), some (.int (iI (v6 + 1)))] [] (tw w0 m (tw_sa S 9 (Int.toNat ((1 + (7 * v5)) + v6)) (S.2.2 10 (Int.toNat v6)))) Post))))))) : pw_Wp E m_X2_askingLine (d + 1) 73 [some (va_rf (some m)), none, none, none, some (.int (iI v4)), some (.int (iI v5)), some (.int (iI v6))] [] (tw w0 m S) Post := by
  refine s_X2_askingLine_73 (some m) (iI v4) (iI v5) (iI v6) ?_
  obtain ⟨h26, H⟩ := H
  refine f_leE (s := 7) (t := v6) rfl rfl (by constructor <;> decide) h26 H (fun H => ?_) (fun H => ?_)
  · refine tw_getr rfl ?_
    refine pw_avE (l_i rfl (l_i (iI_addE rfl rfl) l_0)) (H.mono (t_iE (fun z2 S1 H => ?_)))
    refine tw_asti (k := 9) (t := 0) (x := z2) hm rfl rfl (by decide) (by decide) rfl ?_
    exact c_pi rfl H
  · obtain ⟨h25, H⟩ := H
    refine f_leE (s := 8) (t := v5) rfl rfl (by constructor <;> decide) h25 H (fun H => ?_) (fun H => ?_)
    · refine tw_getr rfl ?_
      refine pw_avE (l_i rfl (l_i (iI_addE rfl rfl) l_0)) (H.mono (t_iE (fun z6 S5 H => ?_)))
      refine tw_asti (k := 9) (t := 0) (x := z6) hm rfl rfl (by decide) (by decide) rfl ?_
      exact c_pi rfl H
    · refine tw_getr rfl ?_
      obtain ⟨h24, H⟩ := H
      refine f_eqE (s := v6) (t := 0) rfl rfl h24 (by constructor <;> decide) H (fun H => ?_) (fun H => ?_)
      · obtain ⟨h9, h10, H⟩ := H
        refine tw_asti (k := 9) (t := ((1 + (7 * v5)) + v6)) (x := v4) hm rfl (iI_addE (iI_addE rfl (iI_mulE rfl rfl)) rfl) h9 h10 rfl ?_
        exact pw_eqL (g_k (g_k (g_k (g_k (g_i rfl (g_i rfl (g_i (iI_addE rfl rfl) g_0))))))) H
      · obtain ⟨h23, H⟩ := H
        refine f_leE (s := 3) (t := v6) rfl rfl (by constructor <;> decide) h23 H (fun H => ?_) (fun H => ?_)
        · refine tw_geti rfl ?_
          obtain ⟨h17, H⟩ := H
          obtain ⟨h18, H⟩ := H
          refine f_leE (s := (S.1 21)) (t := (v6 - 3)) rfl (iI_subE rfl rfl) h17 h18 H (fun H => ?_) (fun H => ?_)
          · obtain ⟨h11, h12, H⟩ := H
            refine tw_asti (k := 9) (t := ((1 + (7 * v5)) + v6)) (x := 0) hm rfl (iI_addE (iI_addE rfl (iI_mulE rfl rfl)) rfl) h11 h12 rfl ?_
            exact pw_eqL (g_k (g_k (g_k (g_k (g_i rfl (g_i rfl (g_i (iI_addE rfl rfl) g_0))))))) H
          · refine tw_getr rfl ?_
            obtain ⟨h13, h14, H⟩ := H
            refine tw_aldi (k := 11) (t := (v6 - 3)) rfl (iI_subE rfl rfl) h13 h14 ?_
            obtain ⟨h15, h16, H⟩ := H
            refine tw_asti (k := 9) (t := ((1 + (7 * v5)) + v6)) (x := (S.2.2 11 (Int.toNat (v6 - 3)))) hm rfl (iI_addE (iI_addE rfl (iI_mulE rfl rfl)) rfl) h15 h16 rfl ?_
            exact pw_eqL (g_k (g_k (g_k (g_k (g_i rfl (g_i rfl (g_i (iI_addE rfl rfl) g_0))))))) H
        · refine tw_getr rfl ?_
          obtain ⟨h19, h20, H⟩ := H
          refine tw_aldi (k := 10) (t := v6) rfl rfl h19 h20 ?_
          obtain ⟨h21, h22, H⟩ := H
          refine tw_asti (k := 9) (t := ((1 + (7 * v5)) + v6)) (x := (S.2.2 10 (Int.toNat v6))) hm rfl (iI_addE (iI_addE rfl (iI_mulE rfl rfl)) rfl) h21 h22 rfl ?_
          exact pw_eqL (g_k (g_k (g_k (g_k (g_i rfl (g_i rfl (g_i (iI_addE rfl rfl) g_0))))))) H
theorem t_X2_at_0 {E : pw_E} {d : Nat} {w0 : pw_W} {m : Nat} {S : tw_S} {Post : pw_R → pw_W → Prop} (hm : pw_base E ≤ m) (v0 : Int) (v1 : Int) (H : Post (.inl (some (.int (iI ((10 * v0) + v1))))) (tw w0 m S)) : pw_Wp E m_X2_at (d + 1) 0 [some (.int (iI v0)), some (.int (iI v1))] [] (tw w0 m S) Post := by
  refine s_X2_at_0 (iI v0) (iI v1) ?_
  exact c_pi (iI_addE (iI_mulE rfl rfl) rfl) H
theorem t_X2_beginVersion_0 {E : pw_E} {d : Nat} {w0 : pw_W} {m : Nat} {S : tw_S} {Post : pw_R → pw_W → Prop} (hm : pw_base E ≤ m) (v1 : Int) (H : ((0 : Int) ≤ (1 + v1) ∧ (1 + v1) < 1526 ∧ ((0 : Int) ≤ (1 + v1) ∧ (1 + v1) < 1526 ∧ pw_Cl E m_X2_latest d [va_rf (some m), .int (iI v1)] (tw w0 m (tw_sa S 9 (Int.toNat (1 + v1)) ((S.2.2 9 (Int.toNat (1 + v1))) + 1))) (c_i (t_i w0 m (fun z6 S5 => ((0 : Int) ≤ (46 + z6) ∧ (46 + z6) < 1526 ∧ pw_Cl E m_X2_latest d [va_rf (some m), .int (iI v1)] (tw w0 m (tw_sa S5 9 (Int.toNat (46 + z6)) 0)) (c_i (t_i w0 m (fun z10 S9 => ((0 : Int) ≤ (6 + z10) ∧ (6 + z10) < 1526 ∧ Post (.inl none) (tw w0 m (tw_sa S9 9 (Int.toNat (6 + z10)) (S9.1 23)))))))))))))) : pw_Wp E m_X2_beginVersion (d + 1) 0 [some (va_rf (some m)), some (.int (iI v1))] [] (tw w0 m S) Post := by
  refine s_X2_beginVersion_0 (some m) (iI v1) ?_
  refine tw_getr rfl ?_
  obtain ⟨h1, h2, H⟩ := H
  refine tw_aldi (k := 9) (t := (1 + v1)) rfl (iI_addE rfl rfl) h1 h2 ?_
  obtain ⟨h3, h4, H⟩ := H
  refine tw_asti (k := 9) (t := (1 + v1)) (x := ((S.2.2 9 (Int.toNat (1 + v1))) + 1)) hm rfl (iI_addE rfl rfl) h3 h4 (iI_addE rfl rfl) ?_
  refine tw_getr rfl ?_
  refine tw_V ?_
  refine pw_avE (l_k (l_i rfl l_0)) (H.mono (t_iE (fun z6 S5 H => ?_)))
  obtain ⟨h7, h8, H⟩ := H
  refine tw_asti (k := 9) (t := (46 + z6)) (x := 0) hm rfl (iI_addE rfl rfl) h7 h8 rfl ?_
  refine tw_getr rfl ?_
  refine tw_V ?_
  refine pw_avE (l_k (l_i rfl l_0)) (H.mono (t_iE (fun z10 S9 H => ?_)))
  refine tw_geti rfl ?_
  obtain ⟨h11, h12, H⟩ := H
  refine tw_asti (k := 9) (t := (6 + z10)) (x := (S9.1 23)) hm rfl (iI_addE rfl rfl) h11 h12 rfl ?_
  exact H
theorem t_X2_beginsAt_0 {E : pw_E} {d : Nat} {w0 : pw_W} {m : Nat} {S : tw_S} {Post : pw_R → pw_W → Prop} (hm : pw_base E ≤ m) (v1 : Int) (v2 : Int) (v3 : Int) (v4 : Int) (H : pw_Cl E m_X2_ofAsking d [va_rf (some m), .int (iI v1), .int (iI 1)] (tw w0 m S) (c_i (t_i w0 m (fun z2 S1 => pw_Cl E m_X2_longOf d [va_rf (some m), .int (iI v2), .int (iI v3)] (tw w0 m S1) (c_i (t_i w0 m (fun z4 S3 => (rI z4 ∧ rI (v4 + z2) ∧ if z4 < (v4 + z2) then pw_Wp E m_X2_beginsAt (d + 1) 32 [some (va_rf (some m)), some (.int (iI v1)), some (.int (iI v2)), some (.int (iI v3)), some (.int (iI v4)), some (.int (iI z2)), some (.int (iI 0)), some (.int (iI 0))] [] (tw w0 m S3) Post else pw_Wp E m_X2_beginsAt (d + 1) 32 [some (va_rf (some m)), some (.int (iI v1)), some (.int (iI v2)), some (.int (iI v3)), some (.int (iI v4)), some (.int (iI z2)), some (.int (iI 1)), some (.int (iI 0))] [] (tw w0 m S3) Post)))))))) : pw_Wp E m_X2_beginsAt (d + 1) 0 [some (va_rf (some m)), some (.int (iI v1)), some (.int (iI v2)), some (.int (iI v3)), some (.int (iI v4)), none, none, none] [] (tw w0 m S) Post := by
  refine s_X2_beginsAt_0 (some m) (iI v1) (iI v2) (iI v3) (iI v4) ?_
  refine tw_V ?_
  refine pw_avE (l_k (l_i rfl (l_i rfl l_0))) (H.mono (t_iE (fun z2 S1 H => ?_)))
  refine tw_V ?_
  refine pw_avE (l_k (l_i rfl (l_i rfl l_0))) (H.mono (t_iE (fun z4 S3 H => ?_)))
  obtain ⟨h5, H⟩ := H
  obtain ⟨h6, H⟩ := H
  refine f_ltE (s := z4) (t := (v4 + z2)) rfl (iI_addE rfl rfl) h5 h6 H (fun H => ?_) (fun H => ?_)
  · exact pw_eqL (g_k (g_i rfl (g_i rfl (g_i rfl (g_i rfl (g_i rfl (g_i rfl (g_i rfl g_0)))))))) H
  · exact pw_eqL (g_k (g_i rfl (g_i rfl (g_i rfl (g_i rfl (g_i rfl (g_i rfl (g_i rfl g_0)))))))) H
theorem t_X2_beginsAt_32 {E : pw_E} {d : Nat} {w0 : pw_W} {m : Nat} {S : tw_S} {Post : pw_R → pw_W → Prop} (hm : pw_base E ≤ m) (v1 : Int) (v2 : Int) (v3 : Int) (v4 : Int) (v5 : Int) (v6 : Int) (v7 : Int) (H : (rI v5 ∧ rI v7 ∧ if v5 ≤ v7 then ((v6 = (0 : Int) ∨ v6 = (1 : Int)) ∧ Post (.inl (some (.int (iI v6)))) (tw w0 m S)) else (rI v6 ∧ if v6 = 0 then ((v6 = (0 : Int) ∨ v6 = (1 : Int)) ∧ Post (.inl (some (.int (iI v6)))) (tw w0 m S)) else pw_Cl E m_X2_wordAt d [va_rf (some m), .int (iI v2), .int (iI v3), .int (iI (v4 + v7))] (tw w0 m S) (c_i (t_i w0 m (fun z4 S3 => pw_Cl E m_X2_ofAsking d [va_rf (some m), .int (iI v1), .int (iI (3 + v7))] (tw w0 m S3) (c_i (t_i w0 m (fun z6 S5 => (rI z4 ∧ rI z6 ∧ if z4 = z6 then pw_Wp E m_X2_beginsAt (d + 1) 32 [some (va_rf (some m)), some (.int (iI v1)), some (.int (iI v2)), some (.int (iI v3)), some (.int (iI v4)), some (.int (iI v5)), some (.int (iI 1)), some (.int (iI (v7 + 1)))] [] (tw w0 m S5) Post else pw_Wp E m_X2_beginsAt (d + 1) 32 [some (va_rf (some m)), some (.int (iI v1)), some (.int (iI v2)), some (.int (iI v3)), some (.int (iI v4)), some (.int (iI v5)), some (.int (iI 0)), some (.int (iI (v7 + 1)))] [] (tw w0 m S5) Post)))))))))) : pw_Wp E m_X2_beginsAt (d + 1) 32 [some (va_rf (some m)), some (.int (iI v1)), some (.int (iI v2)), some (.int (iI v3)), some (.int (iI v4)), some (.int (iI v5)), some (.int (iI v6)), some (.int (iI v7))] [] (tw w0 m S) Post := by
  refine s_X2_beginsAt_32 (some m) (iI v1) (iI v2) (iI v3) (iI v4) (iI v5) (iI v6) (iI v7) ?_
  obtain ⟨h10, H⟩ := H
  obtain ⟨h11, H⟩ := H
  refine f_leE (s := v5) (t := v7) rfl rfl h10 h11 H (fun H => ?_) (fun H => ?_)
  · obtain ⟨h1, H⟩ := H
    exact ⟨nar_01 rfl h1, c_pi rfl H⟩
  · obtain ⟨h9, H⟩ := H
    refine f_eqE (s := v6) (t := 0) rfl rfl h9 (by constructor <;> decide) H (fun H => ?_) (fun H => ?_)
    · obtain ⟨h2, H⟩ := H
      exact ⟨nar_01 rfl h2, c_pi rfl H⟩
    · refine tw_V ?_
      refine pw_avE (l_k (l_i rfl (l_i rfl (l_i (iI_addE rfl rfl) l_0)))) (H.mono (t_iE (fun z4 S3 H => ?_)))
      refine tw_V ?_
      refine pw_avE (l_k (l_i rfl (l_i (iI_addE rfl rfl) l_0))) (H.mono (t_iE (fun z6 S5 H => ?_)))
      obtain ⟨h7, H⟩ := H
      obtain ⟨h8, H⟩ := H
      refine f_eqE (s := z4) (t := z6) rfl rfl h7 h8 H (fun H => ?_) (fun H => ?_)
      · exact pw_eqL (g_k (g_i rfl (g_i rfl (g_i rfl (g_i rfl (g_i rfl (g_i rfl (g_i (iI_addE rfl rfl) g_0)))))))) H
      · exact pw_eqL (g_k (g_i rfl (g_i rfl (g_i rfl (g_i rfl (g_i rfl (g_i rfl (g_i (iI_addE rfl rfl) g_0)))))))) H
theorem t_X2_behindOf_0 {E : pw_E} {d : Nat} {w0 : pw_W} {m : Nat} {S : tw_S} {Post : pw_R → pw_W → Prop} (hm : pw_base E ≤ m) (v1 : Int) (v2 : Int) (v3 : Int) (H : pw_Wp E m_X2_behindOf (d + 1) 6 [some (va_rf (some m)), some (.int (iI v1)), some (.int (iI v2)), some (.int (iI v3)), some (.int (iI (-1))), some (.int (iI 0)), none, none] [] (tw w0 m S) Post) : pw_Wp E m_X2_behindOf (d + 1) 0 [some (va_rf (some m)), some (.int (iI v1)), some (.int (iI v2)), some (.int (iI v3)), none, none, none, none] [] (tw w0 m S) Post := by
  refine s_X2_behindOf_0 (some m) (iI v1) (iI v2) (iI v3) ?_
  exact pw_eqL (g_k (g_i rfl (g_i rfl (g_i rfl (g_i rfl (g_i rfl (g_k (g_k g_0)))))))) H
theorem t_X2_behindOf_6 {E : pw_E} {d : Nat} {w0 : pw_W} {m : Nat} {S : tw_S} {Post : pw_R → pw_W → Prop} (hm : pw_base E ≤ m) (v1 : Int) (v2 : Int) (v3 : Int) (v4 : Int) (v5 : Int) (H : pw_Cl E m_X2_versions d [va_rf (some m), .int (iI v1)] (tw w0 m S) (c_i (t_i w0 m (fun z2 S1 => (rI z2 ∧ rI v5 ∧ if z2 ≤ v5 then (rI v4 ∧ if v4 = (-1) then Post (.inl (some (.int (iI (-1))))) (tw w0 m S1) else pw_Cl E m_X2_whereIs d [va_rf (some m), .int (iI v4)] (tw w0 m S1) (c_i (t_i w0 m (fun z4 S3 => (rI z4 ∧ rI v3 ∧ if z4 = v3 then Post (.inl (some (.int (iI v4)))) (tw w0 m S3) else Post (.inl (some (.int (iI (-1))))) (tw w0 m S3)))))) else pw_Cl E m_X2_has d [.int (iI v3), .int (iI v5)] (tw w0 m S1) (c_z (t_b w0 m (fun b9 S8 => (if b9 = true then pw_Cl E m_X2_placeOf d [va_rf (some m), .int (iI v1), .int (iI v5), .int (iI v2)] (tw w0 m S8) (c_i (t_i w0 m (fun z11 S10 => (rI z11 ∧ if z11 = (-1) then pw_Wp E m_X2_behindOf (d + 1) 74 [some (va_rf (some m)), some (.int (iI v1)), some (.int (iI v2)), some (.int (iI v3)), some (.int (iI v4)), some (.int (iI v5)), none, none] [.int (iI (-1))] (tw w0 m S10) Post else pw_Cl E m_X2_longOf d [va_rf (some m), .int (iI v1), .int (iI v5)] (tw w0 m S10) (c_i (t_i w0 m (fun z13 S12 => (rI (z11 + 1) ∧ rI z13 ∧ if (z11 + 1) < z13 then pw_Cl E m_X2_tokenAt d [va_rf (some m), .int (iI v1), .int (iI v5), .int (iI (z11 + 1))] (tw w0 m S12) (c_i (t_i w0 m (fun z15 S14 => pw_Wp E m_X2_behindOf (d + 1) 74 [some (va_rf (some m)), some (.int (iI v1)), some (.int (iI v2)), some (.int (iI v3)), some (.int (iI v4)), some (.int (iI v5)), none, none] [.int (iI z15)] (tw w0 m S14) Post))) else pw_Wp E m_X2_behindOf (d + 1) 74 [some (va_rf (some m)), some (.int (iI v1)), some (.int (iI v2)), some (.int (iI v3)), some (.int (iI v4)), some (.int (iI v5)), none, none] [.int (iI (-1))] (tw w0 m S12) Post)))))))) else pw_Wp E m_X2_behindOf (d + 1) 74 [some (va_rf (some m)), some (.int (iI v1)), some (.int (iI v2)), some (.int (iI v3)), some (.int (iI v4)), some (.int (iI v5)), none, none] [.int (iI (-1))] (tw w0 m S8) Post))))))))) : pw_Wp E m_X2_behindOf (d + 1) 6 [some (va_rf (some m)), some (.int (iI v1)), some (.int (iI v2)), some (.int (iI v3)), some (.int (iI v4)), some (.int (iI v5)), none, none] [] (tw w0 m S) Post := by
  refine s_X2_behindOf_6 (some m) (iI v1) (iI v2) (iI v3) (iI v4) (iI v5) ?_
  refine tw_V ?_
  refine pw_avE (l_k (l_i rfl l_0)) (H.mono (t_iE (fun z2 S1 H => ?_)))
  obtain ⟨h19, H⟩ := H
  obtain ⟨h20, H⟩ := H
  refine f_leE (s := z2) (t := v5) rfl rfl h19 h20 H (fun H => ?_) (fun H => ?_)
  · obtain ⟨h7, H⟩ := H
    refine f_eqE (s := v4) (t := (-1)) rfl rfl h7 (by constructor <;> decide) H (fun H => ?_) (fun H => ?_)
    · exact c_pi rfl H
    · refine tw_V ?_
      refine pw_avE (l_k (l_i rfl l_0)) (H.mono (t_iE (fun z4 S3 H => ?_)))
      obtain ⟨h5, H⟩ := H
      obtain ⟨h6, H⟩ := H
      refine f_eqE (s := z4) (t := v3) rfl rfl h5 h6 H (fun H => ?_) (fun H => ?_)
      · exact c_pi rfl H
      · exact c_pi rfl H
  · refine pw_avE (l_i rfl (l_i rfl l_0)) (H.mono (t_bE (fun b9 S8 H => ?_)))
    refine f_bE H (fun H => ?_) (fun H => ?_)
    · refine pw_stE (l_i rfl l_0) ?_
      exact pw_eqL (g_k (g_i rfl (g_i rfl (g_i rfl (g_i rfl (g_i rfl (g_k (g_k g_0)))))))) H
    · refine tw_V ?_
      refine pw_avE (l_k (l_i rfl (l_i rfl (l_i rfl l_0)))) (H.mono (t_iE (fun z11 S10 H => ?_)))
      obtain ⟨h18, H⟩ := H
      refine f_eqE (s := z11) (t := (-1)) rfl rfl h18 (by constructor <;> decide) H (fun H => ?_) (fun H => ?_)
      · refine pw_stE (l_i rfl l_0) ?_
        exact pw_eqL (g_k (g_i rfl (g_i rfl (g_i rfl (g_i rfl (g_i rfl (g_k (g_k g_0)))))))) H
      · refine tw_V ?_
        refine pw_avE (l_k (l_i rfl (l_i rfl l_0))) (H.mono (t_iE (fun z13 S12 H => ?_)))
        obtain ⟨h16, H⟩ := H
        obtain ⟨h17, H⟩ := H
        refine f_ltE (s := (z11 + 1)) (t := z13) (iI_addE rfl rfl) rfl h16 h17 H (fun H => ?_) (fun H => ?_)
        · refine tw_V ?_
          refine pw_avE (l_k (l_i rfl (l_i rfl (l_i (iI_addE rfl rfl) l_0)))) (H.mono (t_iE (fun z15 S14 H => ?_)))
          refine pw_stE (l_i rfl l_0) ?_
          exact pw_eqL (g_k (g_i rfl (g_i rfl (g_i rfl (g_i rfl (g_i rfl (g_k (g_k g_0)))))))) H
        · refine pw_stE (l_i rfl l_0) ?_
          exact pw_eqL (g_k (g_i rfl (g_i rfl (g_i rfl (g_i rfl (g_i rfl (g_k (g_k g_0)))))))) H
theorem t_X2_behindOf_74 {E : pw_E} {d : Nat} {w0 : pw_W} {m : Nat} {S : tw_S} {Post : pw_R → pw_W → Prop} (hm : pw_base E ≤ m) (v1 : Int) (v2 : Int) (v3 : Int) (v4 : Int) (v5 : Int) (u0 : Int) (H : pw_Cl E m_X2_has d [.int (iI v3), .int (iI v5)] (tw w0 m S) (c_z (t_b w0 m (fun b2 S1 => (if b2 = true then (rI u0 ∧ if u0 = (-1) then Post (.inl (some (.int (iI (-1))))) (tw w0 m S1) else (rI v4 ∧ if v4 = (-1) then pw_Cl E m_X2_has d [.int (iI v3), .int (iI v5)] (tw w0 m S1) (c_z (t_b w0 m (fun b6 S5 => (if b6 = true then pw_Wp E m_X2_behindOf (d + 1) 6 [some (va_rf (some m)), some (.int (iI v1)), some (.int (iI v2)), some (.int (iI v3)), some (.int (iI u0)), some (.int (iI (v5 + 1))), none, none] [] (tw w0 m S5) Post else pw_Wp E m_X2_behindOf (d + 1) 6 [some (va_rf (some m)), some (.int (iI v1)), some (.int (iI v2)), some (.int (iI v3)), some (.int (iI v4)), some (.int (iI (v5 + 1))), none, none] [] (tw w0 m S5) Post)))) else (rI u0 ∧ rI v4 ∧ if u0 = v4 then pw_Cl E m_X2_has d [.int (iI v3), .int (iI v5)] (tw w0 m S1) (c_z (t_b w0 m (fun b8 S7 => (if b8 = true then pw_Wp E m_X2_behindOf (d + 1) 6 [some (va_rf (some m)), some (.int (iI v1)), some (.int (iI v2)), some (.int (iI v3)), some (.int (iI u0)), some (.int (iI (v5 + 1))), none, none] [] (tw w0 m S7) Post else pw_Wp E m_X2_behindOf (d + 1) 6 [some (va_rf (some m)), some (.int (iI v1)), some (.int (iI v2)), some (.int (iI v3)), some (.int (iI v4)), some (.int (iI (v5 + 1))), none, none] [] (tw w0 m S7) Post)))) else Post (.inl (some (.int (iI (-1))))) (tw w0 m S1)))) else pw_Cl E m_X2_has d [.int (iI v3), .int (iI v5)] (tw w0 m S1) (c_z (t_b w0 m (fun b4 S3 => (if b4 = true then pw_Wp E m_X2_behindOf (d + 1) 6 [some (va_rf (some m)), some (.int (iI v1)), some (.int (iI v2)), some (.int (iI v3)), some (.int (iI u0)), some (.int (iI (v5 + 1))), none, none] [] (tw w0 m S3) Post else pw_Wp E m_X2_behindOf (d + 1) 6 [some (va_rf (some m)), some (.int (iI v1)), some (.int (iI v2)), some (.int (iI v3)), some (.int (iI v4)), some (.int (iI (v5 + 1))), none, none] [] (tw w0 m S3) Post))))))))) : pw_Wp E m_X2_behindOf (d + 1) 74 [some (va_rf (some m)), some (.int (iI v1)), some (.int (iI v2)), some (.int (iI v3)), some (.int (iI v4)), some (.int (iI v5)), none, none] [.int (iI u0)] (tw w0 m S) Post := by
  refine s_X2_behindOf_74 (some m) (iI v1) (iI v2) (iI v3) (iI v4) (iI v5) (iI u0) ?_
  refine pw_avE (l_i rfl (l_i rfl l_0)) (H.mono (t_bE (fun b2 S1 H => ?_)))
  refine f_bE H (fun H => ?_) (fun H => ?_)
  · refine pw_avE (l_i rfl (l_i rfl l_0)) (H.mono (t_bE (fun b4 S3 H => ?_)))
    refine f_bE H (fun H => ?_) (fun H => ?_)
    · exact pw_eqL (g_k (g_i rfl (g_i rfl (g_i rfl (g_i rfl (g_i (iI_addE rfl rfl) (g_k (g_k g_0)))))))) H
    · exact pw_eqL (g_k (g_i rfl (g_i rfl (g_i rfl (g_i rfl (g_i (iI_addE rfl rfl) (g_k (g_k g_0)))))))) H
  · obtain ⟨h12, H⟩ := H
    refine f_eqE (s := u0) (t := (-1)) rfl rfl h12 (by constructor <;> decide) H (fun H => ?_) (fun H => ?_)
    · exact c_pi rfl H
    · obtain ⟨h11, H⟩ := H
      refine f_eqE (s := v4) (t := (-1)) rfl rfl h11 (by constructor <;> decide) H (fun H => ?_) (fun H => ?_)
      · refine pw_avE (l_i rfl (l_i rfl l_0)) (H.mono (t_bE (fun b6 S5 H => ?_)))
        refine f_bE H (fun H => ?_) (fun H => ?_)
        · exact pw_eqL (g_k (g_i rfl (g_i rfl (g_i rfl (g_i rfl (g_i (iI_addE rfl rfl) (g_k (g_k g_0)))))))) H
        · exact pw_eqL (g_k (g_i rfl (g_i rfl (g_i rfl (g_i rfl (g_i (iI_addE rfl rfl) (g_k (g_k g_0)))))))) H
      · obtain ⟨h9, H⟩ := H
        obtain ⟨h10, H⟩ := H
        refine f_eqE (s := u0) (t := v4) rfl rfl h9 h10 H (fun H => ?_) (fun H => ?_)
        · refine pw_avE (l_i rfl (l_i rfl l_0)) (H.mono (t_bE (fun b8 S7 H => ?_)))
          refine f_bE H (fun H => ?_) (fun H => ?_)
          · exact pw_eqL (g_k (g_i rfl (g_i rfl (g_i rfl (g_i rfl (g_i (iI_addE rfl rfl) (g_k (g_k g_0)))))))) H
          · exact pw_eqL (g_k (g_i rfl (g_i rfl (g_i rfl (g_i rfl (g_i (iI_addE rfl rfl) (g_k (g_k g_0)))))))) H
        · exact c_pi rfl H
theorem t_X2_best_0 {E : pw_E} {d : Nat} {w0 : pw_W} {m : Nat} {S : tw_S} {Post : pw_R → pw_W → Prop} (hm : pw_base E ≤ m) (v1 : Int) (v2 : Int) (v3 : Int) (H : pw_Cl E m_X2_layHeld d [va_rf (some m), .int (iI v1), .int (iI v2)] (tw w0 m (tw_sf S 0 0)) (c_z (t_b w0 m (fun b2 S1 => (if b2 = true then (rI v3 ∧ if v3 = 0 then pw_Cl E m_X2_bestAsking d [va_rf (some m)] (tw w0 m S1) (c_i (t_i w0 m (fun z4 S3 => Post (.inl (some (.int (iI z4)))) (tw w0 m S3)))) else (rI v3 ∧ if v3 = 1 then pw_Cl E m_X2_samePairs d [va_rf (some m)] (tw w0 m S1) (c_i (t_i w0 m (fun z6 S5 => Post (.inl (some (.int (iI z6)))) (tw w0 m S5)))) else Post (.inl (some (.int (iI (-2))))) (tw w0 m S1))) else Post (.inl (some (.int (iI (-2))))) (tw w0 m S1)))))) : pw_Wp E m_X2_best (d + 1) 0 [some (va_rf (some m)), some (.int (iI v1)), some (.int (iI v2)), some (.int (iI v3))] [] (tw w0 m S) Post := by
  refine s_X2_best_0 (some m) (iI v1) (iI v2) (iI v3) ?_
  refine tw_puti (x := 0) hm rfl rfl ?_
  refine tw_V ?_
  refine pw_avE (l_k (l_i rfl (l_i rfl l_0))) (H.mono (t_bE (fun b2 S1 H => ?_)))
  refine f_bE H (fun H => ?_) (fun H => ?_)
  · exact c_pi rfl H
  · obtain ⟨h8, H⟩ := H
    refine f_eqE (s := v3) (t := 0) rfl rfl h8 (by constructor <;> decide) H (fun H => ?_) (fun H => ?_)
    · refine tw_V ?_
      refine pw_avE (l_k l_0) (H.mono (t_iE (fun z4 S3 H => ?_)))
      exact c_pi rfl H
    · obtain ⟨h7, H⟩ := H
      refine f_eqE (s := v3) (t := 1) rfl rfl h7 (by constructor <;> decide) H (fun H => ?_) (fun H => ?_)
      · refine tw_V ?_
        refine pw_avE (l_k l_0) (H.mono (t_iE (fun z6 S5 H => ?_)))
        exact c_pi rfl H
      · exact c_pi rfl H
theorem t_X2_bestAsking_0 {E : pw_E} {d : Nat} {w0 : pw_W} {m : Nat} {S : tw_S} {Post : pw_R → pw_W → Prop} (hm : pw_base E ≤ m)  (H : pw_Wp E m_X2_bestAsking (d + 1) 4 [some (va_rf (some m)), some (.int (iI (-1))), some (.int (iI 0))] [] (tw w0 m S) Post) : pw_Wp E m_X2_bestAsking (d + 1) 0 [some (va_rf (some m)), none, none] [] (tw w0 m S) Post := by
  refine s_X2_bestAsking_0 (some m) ?_
  exact pw_eqL (g_k (g_i rfl (g_i rfl g_0))) H
theorem t_X2_bestAsking_4 {E : pw_E} {d : Nat} {w0 : pw_W} {m : Nat} {S : tw_S} {Post : pw_R → pw_W → Prop} (hm : pw_base E ≤ m) (v1 : Int) (v2 : Int) (H : pw_Cl E m_X2_askedMany d [va_rf (some m)] (tw w0 m S) (c_i (t_i w0 m (fun z2 S1 => (rI z2 ∧ rI v2 ∧ if z2 ≤ v2 then Post (.inl (some (.int (iI v1)))) (tw w0 m S1) else (rI v1 ∧ if v1 = (-1) then pw_Wp E m_X2_bestAsking (d + 1) 4 [some (va_rf (some m)), some (.int (iI v2)), some (.int (iI (v2 + 1)))] [] (tw w0 m S1) Post else pw_Cl E m_X2_versionsBy d [va_rf (some m), .int (iI v2)] (tw w0 m S1) (c_i (t_i w0 m (fun z4 S3 => pw_Cl E m_X2_versionsBy d [va_rf (some m), .int (iI v1)] (tw w0 m S3) (c_i (t_i w0 m (fun z6 S5 => (rI z4 ∧ rI z6 ∧ if z4 ≤ z6 then pw_Wp E m_X2_bestAsking (d + 1) 4 [some (va_rf (some m)), some (.int (iI v1)), some (.int (iI (v2 + 1)))] [] (tw w0 m S5) Post else pw_Wp E m_X2_bestAsking (d + 1) 4 [some (va_rf (some m)), some (.int (iI v2)), some (.int (iI (v2 + 1)))] [] (tw w0 m S5) Post))))))))))))) : pw_Wp E m_X2_bestAsking (d + 1) 4 [some (va_rf (some m)), some (.int (iI v1)), some (.int (iI v2))] [] (tw w0 m S) Post := by
  refine s_X2_bestAsking_4 (some m) (iI v1) (iI v2) ?_
  refine tw_V ?_
  refine pw_avE (l_k l_0) (H.mono (t_iE (fun z2 S1 H => ?_)))
  obtain ⟨h10, H⟩ := H
  obtain ⟨h11, H⟩ := H
  refine f_leE (s := z2) (t := v2) rfl rfl h10 h11 H (fun H => ?_) (fun H => ?_)
  · exact c_pi rfl H
  · obtain ⟨h9, H⟩ := H
    refine f_eqE (s := v1) (t := (-1)) rfl rfl h9 (by constructor <;> decide) H (fun H => ?_) (fun H => ?_)
    · exact pw_eqL (g_k (g_i rfl (g_i (iI_addE rfl rfl) g_0))) H
    · refine tw_V ?_
      refine pw_avE (l_k (l_i rfl l_0)) (H.mono (t_iE (fun z4 S3 H => ?_)))
      refine tw_V ?_
      refine pw_avE (l_k (l_i rfl l_0)) (H.mono (t_iE (fun z6 S5 H => ?_)))
      obtain ⟨h7, H⟩ := H
      obtain ⟨h8, H⟩ := H
      refine f_leE (s := z4) (t := z6) rfl rfl h7 h8 H (fun H => ?_) (fun H => ?_)
      · exact pw_eqL (g_k (g_i rfl (g_i (iI_addE rfl rfl) g_0))) H
      · exact pw_eqL (g_k (g_i rfl (g_i (iI_addE rfl rfl) g_0))) H
theorem t_X2_changeBy_0 {E : pw_E} {d : Nat} {w0 : pw_W} {m : Nat} {S : tw_S} {Post : pw_R → pw_W → Prop} (hm : pw_base E ≤ m) (v1 : Int64) (H : (if (Int32.toInt (lg_cmp v1 7370100)) = 0 then Post (.inl (some (.int (iI 0)))) (tw w0 m S) else (if (Int32.toInt (lg_cmp v1 6518132)) = 0 then Post (.inl (some (.int (iI 1)))) (tw w0 m S) else (if (Int32.toInt (lg_cmp v1 1836021349)) = 0 then Post (.inl (some (.int (iI 2)))) (tw w0 m S) else (if (Int32.toInt (lg_cmp v1 1650549611)) = 0 then Post (.inl (some (.int (iI 3)))) (tw w0 m S) else Post (.inl (some (.int (iI (-1))))) (tw w0 m S)))))) : pw_Wp E m_X2_changeBy (d + 1) 0 [some (va_rf (some m)), some (.long v1), none] [] (tw w0 m S) Post := by
  refine s_X2_changeBy_0 (some m) v1 ?_
  refine f_eqE (s := (Int32.toInt (lg_cmp v1 7370100))) (t := 0) (iI_oE _) rfl (rI_of _) (by constructor <;> decide) H (fun H => ?_) (fun H => ?_)
  · exact c_pi rfl H
  · refine f_eqE (s := (Int32.toInt (lg_cmp v1 6518132))) (t := 0) (iI_oE _) rfl (rI_of _) (by constructor <;> decide) H (fun H => ?_) (fun H => ?_)
    · exact c_pi rfl H
    · refine f_eqE (s := (Int32.toInt (lg_cmp v1 1836021349))) (t := 0) (iI_oE _) rfl (rI_of _) (by constructor <;> decide) H (fun H => ?_) (fun H => ?_)
      · exact c_pi rfl H
      · refine f_eqE (s := (Int32.toInt (lg_cmp v1 1650549611))) (t := 0) (iI_oE _) rfl (rI_of _) (by constructor <;> decide) H (fun H => ?_) (fun H => ?_)
        · exact c_pi rfl H
        · exact c_pi rfl H
theorem t_X2_changeLine_0 {E : pw_E} {d : Nat} {w0 : pw_W} {m : Nat} {S : tw_S} {Post : pw_R → pw_W → Prop} (hm : pw_base E ≤ m) (v1 : Int) (v2 : Int) (H : pw_Cl E m_X2_token d [va_rf (some m)] (tw w0 m S) (c_v (t_u w0 m (fun S1 => pw_Cl E m_X2_readChange d [va_rf (some m), .int (iI v1)] (tw w0 m S1) (c_z (t_b w0 m (fun b3 S2 => (if b3 = true then (rI (S2.1 22) ∧ if (S2.1 22) = 0 then (rI (S2.1 16) ∧ if (S2.1 16) = 0 then pw_Cl E m_X2_makeVersion d [va_rf (some m), .int (iI v1)] (tw w0 m S2) (c_v (t_u w0 m (fun S4 => Post (.inl (some (.int (iI 1)))) (tw w0 m S4)))) else Post (.inl (some (.int (iI 1)))) (tw w0 m S2)) else (rI (S2.2.2 9 0) ∧ rI (S2.2.2 10 0) ∧ if (S2.2.2 9 0) ≤ (S2.2.2 10 0) then pw_Wp E m_X2_changeLine (d + 1) 73 [some (va_rf (some m)), some (.int (iI v1)), some (.int (iI v2)), some (.int (iI 0))] [] (tw w0 m S2) Post else ((0 : Int) ≤ (1 + (S2.2.2 10 0)) ∧ (1 + (S2.2.2 10 0)) < 1526 ∧ (rI (S2.2.2 9 (Int.toNat (1 + (S2.2.2 10 0)))) ∧ if (S2.2.2 9 (Int.toNat (1 + (S2.2.2 10 0)))) = 10 then pw_Cl E m_X2_addsFault d [va_rf (some m), .int (iI 3), .int (iI v2)] (tw w0 m S2) (c_v (t_u w0 m (fun S14 => (rI (S14.1 16) ∧ if (S14.1 16) = 0 then pw_Cl E m_X2_makeVersion d [va_rf (some m), .int (iI v1)] (tw w0 m S14) (c_v (t_u w0 m (fun S15 => Post (.inl (some (.int (iI 1)))) (tw w0 m S15)))) else Post (.inl (some (.int (iI 1)))) (tw w0 m S14))))) else pw_Wp E m_X2_changeLine (d + 1) 73 [some (va_rf (some m)), some (.int (iI v1)), some (.int (iI v2)), some (.int (iI 1))] [] (tw w0 m S2) Post)))) else Post (.inl (some (.int (iI 0)))) (tw w0 m S2))))))))) : pw_Wp E m_X2_changeLine (d + 1) 0 [some (va_rf (some m)), some (.int (iI v1)), some (.int (iI v2)), none] [] (tw w0 m S) Post := by
  refine s_X2_changeLine_0 (some m) (iI v1) (iI v2) ?_
  refine tw_V ?_
  refine pw_avE (l_k l_0) (H.mono (t_uE (fun S1 H => ?_)))
  refine tw_V ?_
  refine pw_avE (l_k (l_i rfl l_0)) (H.mono (t_bE (fun b3 S2 H => ?_)))
  refine f_bE H (fun H => ?_) (fun H => ?_)
  · exact c_pi rfl H
  · refine tw_geti rfl ?_
    obtain ⟨h20, H⟩ := H
    refine f_eqE (s := (S2.1 22)) (t := 0) rfl rfl h20 (by constructor <;> decide) H (fun H => ?_) (fun H => ?_)
    · refine tw_geti rfl ?_
      obtain ⟨h5, H⟩ := H
      refine f_eqE (s := (S2.1 16)) (t := 0) rfl rfl h5 (by constructor <;> decide) H (fun H => ?_) (fun H => ?_)
      · refine tw_V ?_
        refine pw_avE (l_k (l_i rfl l_0)) (H.mono (t_uE (fun S4 H => ?_)))
        exact c_pi rfl H
      · exact c_pi rfl H
    · refine tw_getr rfl ?_
      refine tw_aldi (k := 10) (t := 0) rfl rfl (by decide) (by decide) ?_
      refine tw_getr rfl ?_
      refine tw_aldi (k := 9) (t := 0) rfl rfl (by decide) (by decide) ?_
      obtain ⟨h18, H⟩ := H
      obtain ⟨h19, H⟩ := H
      refine f_leE (s := (S2.2.2 9 0)) (t := (S2.2.2 10 0)) rfl rfl h18 h19 H (fun H => ?_) (fun H => ?_)
      · exact pw_eqL (g_k (g_i rfl (g_i rfl (g_i rfl g_0)))) H
      · refine tw_getr rfl ?_
        refine tw_getr rfl ?_
        refine tw_aldi (k := 10) (t := 0) rfl rfl (by decide) (by decide) ?_
        obtain ⟨h12, h13, H⟩ := H
        refine tw_aldi (k := 9) (t := (1 + (S2.2.2 10 0))) rfl (iI_addE rfl rfl) h12 h13 ?_
        obtain ⟨h17, H⟩ := H
        refine f_eqE (s := (S2.2.2 9 (Int.toNat (1 + (S2.2.2 10 0))))) (t := 10) rfl rfl h17 (by constructor <;> decide) H (fun H => ?_) (fun H => ?_)
        · refine tw_V ?_
          refine pw_avE (l_k (l_i rfl (l_i rfl l_0))) (H.mono (t_uE (fun S14 H => ?_)))
          refine tw_geti rfl ?_
          obtain ⟨h16, H⟩ := H
          refine f_eqE (s := (S14.1 16)) (t := 0) rfl rfl h16 (by constructor <;> decide) H (fun H => ?_) (fun H => ?_)
          · refine tw_V ?_
            refine pw_avE (l_k (l_i rfl l_0)) (H.mono (t_uE (fun S15 H => ?_)))
            exact c_pi rfl H
          · exact c_pi rfl H
        · exact pw_eqL (g_k (g_i rfl (g_i rfl (g_i rfl g_0)))) H
theorem t_X2_changeLine_73 {E : pw_E} {d : Nat} {w0 : pw_W} {m : Nat} {S : tw_S} {Post : pw_R → pw_W → Prop} (hm : pw_base E ≤ m) (v1 : Int) (v2 : Int) (v3 : Int) (H : (rI v3 ∧ if v3 = 0 then pw_Cl E m_X2_addsFault d [va_rf (some m), .int (iI 4), .int (iI v2)] (tw w0 m S) (c_v (t_u w0 m (fun S1 => (rI (S1.1 16) ∧ if (S1.1 16) = 0 then pw_Cl E m_X2_makeVersion d [va_rf (some m), .int (iI v1)] (tw w0 m S1) (c_v (t_u w0 m (fun S2 => Post (.inl (some (.int (iI 1)))) (tw w0 m S2)))) else Post (.inl (some (.int (iI 1)))) (tw w0 m S1))))) else pw_Cl E m_X2_isThere d [va_rf (some m), .int (iI v1)] (tw w0 m S) (c_z (t_b w0 m (fun b5 S4 => (if b5 = true then (rI (S4.1 16) ∧ if (S4.1 16) = 0 then pw_Cl E m_X2_makeVersion d [va_rf (some m), .int (iI v1)] (tw w0 m S4) (c_v (t_u w0 m (fun S9 => Post (.inl (some (.int (iI 1)))) (tw w0 m S9)))) else Post (.inl (some (.int (iI 1)))) (tw w0 m S4)) else pw_Cl E m_X2_addsFault d [va_rf (some m), .int (iI 4), .int (iI v2)] (tw w0 m S4) (c_v (t_u w0 m (fun S6 => (rI (S6.1 16) ∧ if (S6.1 16) = 0 then pw_Cl E m_X2_makeVersion d [va_rf (some m), .int (iI v1)] (tw w0 m S6) (c_v (t_u w0 m (fun S7 => Post (.inl (some (.int (iI 1)))) (tw w0 m S7)))) else Post (.inl (some (.int (iI 1)))) (tw w0 m S6))))))))))) : pw_Wp E m_X2_changeLine (d + 1) 73 [some (va_rf (some m)), some (.int (iI v1)), some (.int (iI v2)), some (.int (iI v3))] [] (tw w0 m S) Post := by
  refine s_X2_changeLine_73 (some m) (iI v1) (iI v2) (iI v3) ?_
  obtain ⟨h11, H⟩ := H
  refine f_eqE (s := v3) (t := 0) rfl rfl h11 (by constructor <;> decide) H (fun H => ?_) (fun H => ?_)
  · refine tw_V ?_
    refine pw_avE (l_k (l_i rfl (l_i rfl l_0))) (H.mono (t_uE (fun S1 H => ?_)))
    refine tw_geti rfl ?_
    obtain ⟨h3, H⟩ := H
    refine f_eqE (s := (S1.1 16)) (t := 0) rfl rfl h3 (by constructor <;> decide) H (fun H => ?_) (fun H => ?_)
    · refine tw_V ?_
      refine pw_avE (l_k (l_i rfl l_0)) (H.mono (t_uE (fun S2 H => ?_)))
      exact c_pi rfl H
    · exact c_pi rfl H
  · refine tw_V ?_
    refine pw_avE (l_k (l_i rfl l_0)) (H.mono (t_bE (fun b5 S4 H => ?_)))
    refine f_bE H (fun H => ?_) (fun H => ?_)
    · refine tw_V ?_
      refine pw_avE (l_k (l_i rfl (l_i rfl l_0))) (H.mono (t_uE (fun S6 H => ?_)))
      refine tw_geti rfl ?_
      obtain ⟨h8, H⟩ := H
      refine f_eqE (s := (S6.1 16)) (t := 0) rfl rfl h8 (by constructor <;> decide) H (fun H => ?_) (fun H => ?_)
      · refine tw_V ?_
        refine pw_avE (l_k (l_i rfl l_0)) (H.mono (t_uE (fun S7 H => ?_)))
        exact c_pi rfl H
      · exact c_pi rfl H
    · refine tw_geti rfl ?_
      obtain ⟨h10, H⟩ := H
      refine f_eqE (s := (S4.1 16)) (t := 0) rfl rfl h10 (by constructor <;> decide) H (fun H => ?_) (fun H => ?_)
      · refine tw_V ?_
        refine pw_avE (l_k (l_i rfl l_0)) (H.mono (t_uE (fun S9 H => ?_)))
        exact c_pi rfl H
      · exact c_pi rfl H
theorem t_X2_changes_0 {E : pw_E} {d : Nat} {w0 : pw_W} {m : Nat} {S : tw_S} {Post : pw_R → pw_W → Prop} (hm : pw_base E ≤ m) (v1 : Int) (v2 : Int) (H : pw_Wp E m_X2_changes (d + 1) 8 [some (va_rf (some m)), some (.int (iI v1)), some (.int (iI v2)), some (.int (iI 0)), some (.int (iI 0)), some (.int (iI 0)), none] [] (tw w0 m S) Post) : pw_Wp E m_X2_changes (d + 1) 0 [some (va_rf (some m)), some (.int (iI v1)), some (.int (iI v2)), none, none, none, none] [] (tw w0 m S) Post := by
  refine s_X2_changes_0 (some m) (iI v1) (iI v2) ?_
  exact pw_eqL (g_k (g_i rfl (g_i rfl (g_i rfl (g_i rfl (g_i rfl (g_k g_0))))))) H
theorem t_X2_changes_8 {E : pw_E} {d : Nat} {w0 : pw_W} {m : Nat} {S : tw_S} {Post : pw_R → pw_W → Prop} (hm : pw_base E ≤ m) (v1 : Int) (v2 : Int) (v3 : Int) (v4 : Int) (v5 : Int) (H : (rI v5 ∧ if (100 : Int) ≤ v5 then (rI v2 ∧ if v2 = (-1) then Post (.inl (some (.int (iI v3)))) (tw w0 m S) else Post (.inl (some (.int (iI (-1))))) (tw w0 m S)) else pw_Cl E m_X2_asOf d [va_rf (some m), .int (iI v1), .int (iI v5)] (tw w0 m S) (c_i (t_i w0 m (fun z3 S2 => (rI z3 ∧ rI v4 ∧ if z3 = v4 then pw_Wp E m_X2_changes (d + 1) 8 [some (va_rf (some m)), some (.int (iI v1)), some (.int (iI v2)), some (.int (iI v3)), some (.int (iI z3)), some (.int (iI (v5 + 1))), none] [] (tw w0 m S2) Post else (rI v3 ∧ rI v2 ∧ if v3 = v2 then Post (.inl (some (.int (iI v5)))) (tw w0 m S2) else pw_Wp E m_X2_changes (d + 1) 8 [some (va_rf (some m)), some (.int (iI v1)), some (.int (iI v2)), some (.int (iI (v3 + 1))), some (.int (iI z3)), some (.int (iI (v5 + 1))), none] [] (tw w0 m S2) Post))))))) : pw_Wp E m_X2_changes (d + 1) 8 [some (va_rf (some m)), some (.int (iI v1)), some (.int (iI v2)), some (.int (iI v3)), some (.int (iI v4)), some (.int (iI v5)), none] [] (tw w0 m S) Post := by
  refine s_X2_changes_8 (some m) (iI v1) (iI v2) (iI v3) (iI v4) (iI v5) ?_
  obtain ⟨h8, H⟩ := H
  refine f_leE (s := 100) (t := v5) rfl rfl (by constructor <;> decide) h8 H (fun H => ?_) (fun H => ?_)
  · obtain ⟨h1, H⟩ := H
    refine f_eqE (s := v2) (t := (-1)) rfl rfl h1 (by constructor <;> decide) H (fun H => ?_) (fun H => ?_)
    · exact c_pi rfl H
    · exact c_pi rfl H
  · refine tw_V ?_
    refine pw_avE (l_k (l_i rfl (l_i rfl l_0))) (H.mono (t_iE (fun z3 S2 H => ?_)))
    obtain ⟨h6, H⟩ := H
    obtain ⟨h7, H⟩ := H
    refine f_eqE (s := z3) (t := v4) rfl rfl h6 h7 H (fun H => ?_) (fun H => ?_)
    · exact pw_eqL (g_k (g_i rfl (g_i rfl (g_i rfl (g_i rfl (g_i (iI_addE rfl rfl) (g_k g_0))))))) H
    · obtain ⟨h4, H⟩ := H
      obtain ⟨h5, H⟩ := H
      refine f_eqE (s := v3) (t := v2) rfl rfl h4 h5 H (fun H => ?_) (fun H => ?_)
      · exact c_pi rfl H
      · exact pw_eqL (g_k (g_i rfl (g_i rfl (g_i (iI_addE rfl rfl) (g_i rfl (g_i (iI_addE rfl rfl) (g_k g_0))))))) H
theorem t_X2_common_0 {E : pw_E} {d : Nat} {w0 : pw_W} {m : Nat} {S : tw_S} {Post : pw_R → pw_W → Prop} (hm : pw_base E ≤ m) (v1 : Int) (v2 : Int) (v3 : Int) (v4 : Int) (v5 : Int) (H : pw_Cl E m_X2_hand d [va_rf (some m), .int (iI v1)] (tw w0 m (tw_sf S 0 0)) (c_z (t_b w0 m (fun b2 S1 => (if b2 = true then pw_Cl E m_X2_isVersion d [va_rf (some m), .int (iI v2), .int (iI v3)] (tw w0 m S1) (c_z (t_b w0 m (fun b4 S3 => (if b4 = true then pw_Cl E m_X2_isVersion d [va_rf (some m), .int (iI v4), .int (iI v5)] (tw w0 m S3) (c_z (t_b w0 m (fun b6 S5 => (if b6 = true then pw_Wp E m_X2_common (d + 1) 38 [some (va_rf (some m)), none, some (.int (iI v2)), some (.int (iI v3)), some (.int (iI v4)), some (.int (iI v5)), some (.int (iI 0)), none, none, none, none, none] [] (tw w0 m S5) Post else Post (.inl (some (.int (iI (-1))))) (tw w0 m S5))))) else Post (.inl (some (.int (iI (-1))))) (tw w0 m S3))))) else Post (.inl (some (.int (iI (-1))))) (tw w0 m S1)))))) : pw_Wp E m_X2_common (d + 1) 0 [some (va_rf (some m)), some (.int (iI v1)), some (.int (iI v2)), some (.int (iI v3)), some (.int (iI v4)), some (.int (iI v5)), none, none, none, none, none, none] [] (tw w0 m S) Post := by
  refine s_X2_common_0 (some m) (iI v1) (iI v2) (iI v3) (iI v4) (iI v5) ?_
  refine tw_puti (x := 0) hm rfl rfl ?_
  refine tw_V ?_
  refine pw_avE (l_k (l_i rfl l_0)) (H.mono (t_bE (fun b2 S1 H => ?_)))
  refine f_bE H (fun H => ?_) (fun H => ?_)
  · exact c_pi rfl H
  · refine tw_V ?_
    refine pw_avE (l_k (l_i rfl (l_i rfl l_0))) (H.mono (t_bE (fun b4 S3 H => ?_)))
    refine f_bE H (fun H => ?_) (fun H => ?_)
    · exact c_pi rfl H
    · refine tw_V ?_
      refine pw_avE (l_k (l_i rfl (l_i rfl l_0))) (H.mono (t_bE (fun b6 S5 H => ?_)))
      refine f_bE H (fun H => ?_) (fun H => ?_)
      · exact c_pi rfl H
      · exact pw_eqL (g_k (g_k (g_i rfl (g_i rfl (g_i rfl (g_i rfl (g_i rfl (g_k (g_k (g_k (g_k (g_k g_0)))))))))))) H
theorem t_X2_common_38 {E : pw_E} {d : Nat} {w0 : pw_W} {m : Nat} {S : tw_S} {Post : pw_R → pw_W → Prop} (hm : pw_base E ≤ m) (v2 : Int) (v3 : Int) (v4 : Int) (v5 : Int) (v6 : Int) (H : (rI v6 ∧ if (441 : Int) ≤ v6 then pw_Cl E m_X2_longOf d [va_rf (some m), .int (iI v2), .int (iI v3)] (tw w0 m S) (c_i (t_i w0 m (fun z2 S1 => pw_Cl E m_X2_longOf d [va_rf (some m), .int (iI v4), .int (iI v5)] (tw w0 m S1) (c_i (t_i w0 m (fun z4 S3 => pw_Wp E m_X2_common (d + 1) 81 [some (va_rf (some m)), none, some (.int (iI v2)), some (.int (iI v3)), some (.int (iI v4)), some (.int (iI v5)), some (.int (iI z2)), some (.int (iI z4)), some (.int (iI 1)), none, none, none] [] (tw w0 m S3) Post)))))) else ((0 : Int) ≤ v6 ∧ v6 < 441 ∧ pw_Wp E m_X2_common (d + 1) 38 [some (va_rf (some m)), none, some (.int (iI v2)), some (.int (iI v3)), some (.int (iI v4)), some (.int (iI v5)), some (.int (iI (v6 + 1))), none, none, none, none, none] [] (tw w0 m (tw_sa S 13 (Int.toNat v6) 0)) Post))) : pw_Wp E m_X2_common (d + 1) 38 [some (va_rf (some m)), none, some (.int (iI v2)), some (.int (iI v3)), some (.int (iI v4)), some (.int (iI v5)), some (.int (iI v6)), none, none, none, none, none] [] (tw w0 m S) Post := by
  refine s_X2_common_38 (some m) (iI v2) (iI v3) (iI v4) (iI v5) (iI v6) ?_
  obtain ⟨h7, H⟩ := H
  refine f_leE (s := 441) (t := v6) rfl rfl (by constructor <;> decide) h7 H (fun H => ?_) (fun H => ?_)
  · refine tw_V ?_
    refine pw_avE (l_k (l_i rfl (l_i rfl l_0))) (H.mono (t_iE (fun z2 S1 H => ?_)))
    refine tw_V ?_
    refine pw_avE (l_k (l_i rfl (l_i rfl l_0))) (H.mono (t_iE (fun z4 S3 H => ?_)))
    exact pw_eqL (g_k (g_k (g_i rfl (g_i rfl (g_i rfl (g_i rfl (g_i rfl (g_i rfl (g_i rfl (g_k (g_k (g_k g_0)))))))))))) H
  · refine tw_getr rfl ?_
    obtain ⟨h5, h6, H⟩ := H
    refine tw_asti (k := 13) (t := v6) (x := 0) hm rfl rfl h5 h6 rfl ?_
    exact pw_eqL (g_k (g_k (g_i rfl (g_i rfl (g_i rfl (g_i rfl (g_i (iI_addE rfl rfl) (g_k (g_k (g_k (g_k (g_k g_0)))))))))))) H
theorem t_X2_common_81 {E : pw_E} {d : Nat} {w0 : pw_W} {m : Nat} {S : tw_S} {Post : pw_R → pw_W → Prop} (hm : pw_base E ≤ m) (v2 : Int) (v3 : Int) (v4 : Int) (v5 : Int) (v6 : Int) (v7 : Int) (v8 : Int) (H : (rI v6 ∧ rI v8 ∧ if v6 < v8 then ((0 : Int) ≤ ((21 * v6) + v7) ∧ ((21 * v6) + v7) < 441 ∧ Post (.inl (some (.int (iI (S.2.2 13 (Int.toNat ((21 * v6) + v7))))))) (tw w0 m S)) else pw_Wp E m_X2_common (d + 1) 91 [some (va_rf (some m)), none, some (.int (iI v2)), some (.int (iI v3)), some (.int (iI v4)), some (.int (iI v5)), some (.int (iI v6)), some (.int (iI v7)), some (.int (iI v8)), some (.int (iI 1)), none, none] [] (tw w0 m S) Post)) : pw_Wp E m_X2_common (d + 1) 81 [some (va_rf (some m)), none, some (.int (iI v2)), some (.int (iI v3)), some (.int (iI v4)), some (.int (iI v5)), some (.int (iI v6)), some (.int (iI v7)), some (.int (iI v8)), none, none, none] [] (tw w0 m S) Post := by
  refine s_X2_common_81 (some m) (iI v2) (iI v3) (iI v4) (iI v5) (iI v6) (iI v7) (iI v8) ?_
  obtain ⟨h3, H⟩ := H
  obtain ⟨h4, H⟩ := H
  refine f_ltE (s := v6) (t := v8) rfl rfl h3 h4 H (fun H => ?_) (fun H => ?_)
  · refine tw_getr rfl ?_
    obtain ⟨h1, h2, H⟩ := H
    refine tw_aldi (k := 13) (t := ((21 * v6) + v7)) rfl (iI_addE (iI_mulE rfl rfl) rfl) h1 h2 ?_
    exact c_pi rfl H
  · exact pw_eqL (g_k (g_k (g_i rfl (g_i rfl (g_i rfl (g_i rfl (g_i rfl (g_i rfl (g_i rfl (g_i rfl (g_k (g_k g_0)))))))))))) H
theorem t_X2_common_91 {E : pw_E} {d : Nat} {w0 : pw_W} {m : Nat} {S : tw_S} {Post : pw_R → pw_W → Prop} (hm : pw_base E ≤ m) (v2 : Int) (v3 : Int) (v4 : Int) (v5 : Int) (v6 : Int) (v7 : Int) (v8 : Int) (v9 : Int) (H : (rI v7 ∧ rI v9 ∧ if v7 < v9 then pw_Wp E m_X2_common (d + 1) 81 [some (va_rf (some m)), none, some (.int (iI v2)), some (.int (iI v3)), some (.int (iI v4)), some (.int (iI v5)), some (.int (iI v6)), some (.int (iI v7)), some (.int (iI (v8 + 1))), none, none, none] [] (tw w0 m S) Post else pw_Cl E m_X2_wordAt d [va_rf (some m), .int (iI v2), .int (iI v3), .int (iI (v8 - 1))] (tw w0 m S) (c_i (t_i w0 m (fun z2 S1 => pw_Cl E m_X2_wordAt d [va_rf (some m), .int (iI v4), .int (iI v5), .int (iI (v9 - 1))] (tw w0 m S1) (c_i (t_i w0 m (fun z4 S3 => (rI z2 ∧ rI z4 ∧ if z2 = z4 then ((0 : Int) ≤ (((21 * v8) - 21) + v9) ∧ (((21 * v8) - 21) + v9) < 441 ∧ ((0 : Int) ≤ (((21 * v8) + v9) - 1) ∧ (((21 * v8) + v9) - 1) < 441 ∧ pw_Cl E m_X2_greater d [.int (iI (S3.2.2 13 (Int.toNat (((21 * v8) - 21) + v9)))), .int (iI (S3.2.2 13 (Int.toNat (((21 * v8) + v9) - 1))))] (tw w0 m S3) (c_i (t_i w0 m (fun z10 S9 => ((0 : Int) ≤ (((21 * v8) - 22) + v9) ∧ (((21 * v8) - 22) + v9) < 441 ∧ ((0 : Int) ≤ ((21 * v8) + v9) ∧ ((21 * v8) + v9) < 441 ∧ pw_Wp E m_X2_common (d + 1) 91 [some (va_rf (some m)), none, some (.int (iI v2)), some (.int (iI v3)), some (.int (iI v4)), some (.int (iI v5)), some (.int (iI v6)), some (.int (iI v7)), some (.int (iI v8)), some (.int (iI (v9 + 1))), none, none] [] (tw w0 m (tw_sa S9 13 (Int.toNat ((21 * v8) + v9)) ((S9.2.2 13 (Int.toNat (((21 * v8) - 22) + v9))) + 1))) Post))))))) else ((0 : Int) ≤ (((21 * v8) - 21) + v9) ∧ (((21 * v8) - 21) + v9) < 441 ∧ ((0 : Int) ≤ (((21 * v8) + v9) - 1) ∧ (((21 * v8) + v9) - 1) < 441 ∧ pw_Cl E m_X2_greater d [.int (iI (S3.2.2 13 (Int.toNat (((21 * v8) - 21) + v9)))), .int (iI (S3.2.2 13 (Int.toNat (((21 * v8) + v9) - 1))))] (tw w0 m S3) (c_i (t_i w0 m (fun z20 S19 => ((0 : Int) ≤ ((21 * v8) + v9) ∧ ((21 * v8) + v9) < 441 ∧ pw_Wp E m_X2_common (d + 1) 91 [some (va_rf (some m)), none, some (.int (iI v2)), some (.int (iI v3)), some (.int (iI v4)), some (.int (iI v5)), some (.int (iI v6)), some (.int (iI v7)), some (.int (iI v8)), some (.int (iI (v9 + 1))), none, none] [] (tw w0 m (tw_sa S19 13 (Int.toNat ((21 * v8) + v9)) z20)) Post))))))))))))))) : pw_Wp E m_X2_common (d + 1) 91 [some (va_rf (some m)), none, some (.int (iI v2)), some (.int (iI v3)), some (.int (iI v4)), some (.int (iI v5)), some (.int (iI v6)), some (.int (iI v7)), some (.int (iI v8)), some (.int (iI v9)), none, none] [] (tw w0 m S) Post := by
  refine s_X2_common_91 (some m) (iI v2) (iI v3) (iI v4) (iI v5) (iI v6) (iI v7) (iI v8) (iI v9) ?_
  obtain ⟨h25, H⟩ := H
  obtain ⟨h26, H⟩ := H
  refine f_ltE (s := v7) (t := v9) rfl rfl h25 h26 H (fun H => ?_) (fun H => ?_)
  · exact pw_eqL (g_k (g_k (g_i rfl (g_i rfl (g_i rfl (g_i rfl (g_i rfl (g_i rfl (g_i (iI_addE rfl rfl) (g_k (g_k (g_k g_0)))))))))))) H
  · refine tw_V ?_
    refine pw_avE (l_k (l_i rfl (l_i rfl (l_i (iI_subE rfl rfl) l_0)))) (H.mono (t_iE (fun z2 S1 H => ?_)))
    refine tw_V ?_
    refine pw_avE (l_k (l_i rfl (l_i rfl (l_i (iI_subE rfl rfl) l_0)))) (H.mono (t_iE (fun z4 S3 H => ?_)))
    obtain ⟨h23, H⟩ := H
    obtain ⟨h24, H⟩ := H
    refine f_eqE (s := z2) (t := z4) rfl rfl h23 h24 H (fun H => ?_) (fun H => ?_)
    · refine tw_getr rfl ?_
      obtain ⟨h5, h6, H⟩ := H
      refine tw_aldi (k := 13) (t := (((21 * v8) - 21) + v9)) rfl (iI_addE (iI_subE (iI_mulE rfl rfl) rfl) rfl) h5 h6 ?_
      refine tw_getr rfl ?_
      obtain ⟨h7, h8, H⟩ := H
      refine tw_aldi (k := 13) (t := (((21 * v8) + v9) - 1)) rfl (iI_subE (iI_addE (iI_mulE rfl rfl) rfl) rfl) h7 h8 ?_
      refine pw_avE (l_i rfl (l_i rfl l_0)) (H.mono (t_iE (fun z10 S9 H => ?_)))
      refine tw_getr rfl ?_
      refine tw_getr rfl ?_
      obtain ⟨h11, h12, H⟩ := H
      refine tw_aldi (k := 13) (t := (((21 * v8) - 22) + v9)) rfl (iI_addE (iI_subE (iI_mulE rfl rfl) rfl) rfl) h11 h12 ?_
      obtain ⟨h13, h14, H⟩ := H
      refine tw_asti (k := 13) (t := ((21 * v8) + v9)) (x := ((S9.2.2 13 (Int.toNat (((21 * v8) - 22) + v9))) + 1)) hm rfl (iI_addE (iI_mulE rfl rfl) rfl) h13 h14 (iI_addE rfl rfl) ?_
      exact pw_eqL (g_k (g_k (g_i rfl (g_i rfl (g_i rfl (g_i rfl (g_i rfl (g_i rfl (g_i rfl (g_i (iI_addE rfl rfl) (g_k (g_k g_0)))))))))))) H
    · refine tw_getr rfl ?_
      obtain ⟨h15, h16, H⟩ := H
      refine tw_aldi (k := 13) (t := (((21 * v8) - 21) + v9)) rfl (iI_addE (iI_subE (iI_mulE rfl rfl) rfl) rfl) h15 h16 ?_
      refine tw_getr rfl ?_
      obtain ⟨h17, h18, H⟩ := H
      refine tw_aldi (k := 13) (t := (((21 * v8) + v9) - 1)) rfl (iI_subE (iI_addE (iI_mulE rfl rfl) rfl) rfl) h17 h18 ?_
      refine pw_avE (l_i rfl (l_i rfl l_0)) (H.mono (t_iE (fun z20 S19 H => ?_)))
      refine tw_getr rfl ?_
      obtain ⟨h21, h22, H⟩ := H
      refine tw_asti (k := 13) (t := ((21 * v8) + v9)) (x := z20) hm rfl (iI_addE (iI_mulE rfl rfl) rfl) h21 h22 rfl ?_
      exact pw_eqL (g_k (g_k (g_i rfl (g_i rfl (g_i rfl (g_i rfl (g_i rfl (g_i rfl (g_i rfl (g_i (iI_addE rfl rfl) (g_k (g_k g_0)))))))))))) H
theorem t_X2_copyAll_0 {E : pw_E} {d : Nat} {w0 : pw_W} {m : Nat} {S : tw_S} {Post : pw_R → pw_W → Prop} (hm : pw_base E ≤ m) (v1 : Int) (v2 : Int) (H : pw_Wp E m_X2_copyAll (d + 1) 2 [some (va_rf (some m)), some (.int (iI v1)), some (.int (iI v2)), some (.int (iI 0))] [] (tw w0 m S) Post) : pw_Wp E m_X2_copyAll (d + 1) 0 [some (va_rf (some m)), some (.int (iI v1)), some (.int (iI v2)), none] [] (tw w0 m S) Post := by
  refine s_X2_copyAll_0 (some m) (iI v1) (iI v2) ?_
  exact pw_eqL (g_k (g_i rfl (g_i rfl (g_i rfl g_0)))) H
theorem t_X2_copyAll_2 {E : pw_E} {d : Nat} {w0 : pw_W} {m : Nat} {S : tw_S} {Post : pw_R → pw_W → Prop} (hm : pw_base E ≤ m) (v1 : Int) (v2 : Int) (v3 : Int) (H : (rI v3 ∧ if (600 : Int) ≤ v3 then pw_Cl E m_X2_copyRow d [va_rf (some (m + 2)), .int (iI 1), .int (iI v1), .int (iI v2)] (tw w0 m S) (c_v (t_u w0 m (fun S1 => pw_Cl E m_X2_copyRow d [va_rf (some (m + 3)), .int (iI 1), .int (iI v1), .int (iI v2)] (tw w0 m S1) (c_v (t_u w0 m (fun S2 => pw_Cl E m_X2_copyRow d [va_rf (some (m + 4)), .int (iI 1), .int (iI v1), .int (iI v2)] (tw w0 m S2) (c_v (t_u w0 m (fun S3 => pw_Cl E m_X2_copyRow d [va_rf (some (m + 5)), .int (iI 3), .int (iI v1), .int (iI v2)] (tw w0 m S3) (c_v (t_u w0 m (fun S4 => pw_Cl E m_X2_copyRow d [va_rf (some (m + 6)), .int (iI 3052), .int (iI v1), .int (iI v2)] (tw w0 m S4) (c_v (t_u w0 m (fun S5 => pw_Cl E m_X2_copyRow d [va_rf (some (m + 7)), .int (iI 114), .int (iI v1), .int (iI v2)] (tw w0 m S5) (c_v (t_u w0 m (fun S6 => pw_Cl E m_X2_copyRow d [va_rf (some (m + 8)), .int (iI 50), .int (iI v1), .int (iI v2)] (tw w0 m S6) (c_v (t_u w0 m (fun S7 => Post (.inl none) (tw w0 m S7)))))))))))))))))))))) else ((0 : Int) ≤ ((600 * v1) + v3) ∧ ((600 * v1) + v3) < 2400 ∧ ((0 : Int) ≤ ((600 * v2) + v3) ∧ ((600 * v2) + v3) < 2400 ∧ pw_Wp E m_X2_copyAll (d + 1) 2 [some (va_rf (some m)), some (.int (iI v1)), some (.int (iI v2)), some (.int (iI (v3 + 1)))] [] (tw w0 m (tw_sa S 1 (Int.toNat ((600 * v2) + v3)) (iB (S.2.2 1 (Int.toNat ((600 * v1) + v3)))))) Post)))) : pw_Wp E m_X2_copyAll (d + 1) 2 [some (va_rf (some m)), some (.int (iI v1)), some (.int (iI v2)), some (.int (iI v3))] [] (tw w0 m S) Post := by
  refine s_X2_copyAll_2 (some m) (iI v1) (iI v2) (iI v3) ?_
  obtain ⟨h12, H⟩ := H
  refine f_leE (s := 600) (t := v3) rfl rfl (by constructor <;> decide) h12 H (fun H => ?_) (fun H => ?_)
  · refine tw_getr rfl ?_
    refine pw_avE (l_k (l_i rfl (l_i rfl (l_i rfl l_0)))) (H.mono (t_uE (fun S1 H => ?_)))
    refine tw_getr rfl ?_
    refine pw_avE (l_k (l_i rfl (l_i rfl (l_i rfl l_0)))) (H.mono (t_uE (fun S2 H => ?_)))
    refine tw_getr rfl ?_
    refine pw_avE (l_k (l_i rfl (l_i rfl (l_i rfl l_0)))) (H.mono (t_uE (fun S3 H => ?_)))
    refine tw_getr rfl ?_
    refine pw_avE (l_k (l_i rfl (l_i rfl (l_i rfl l_0)))) (H.mono (t_uE (fun S4 H => ?_)))
    refine tw_getr rfl ?_
    refine pw_avE (l_k (l_i rfl (l_i rfl (l_i rfl l_0)))) (H.mono (t_uE (fun S5 H => ?_)))
    refine tw_getr rfl ?_
    refine pw_avE (l_k (l_i rfl (l_i rfl (l_i rfl l_0)))) (H.mono (t_uE (fun S6 H => ?_)))
    refine tw_getr rfl ?_
    refine pw_avE (l_k (l_i rfl (l_i rfl (l_i rfl l_0)))) (H.mono (t_uE (fun S7 H => ?_)))
    exact H
  · refine tw_getr rfl ?_
    refine tw_getr rfl ?_
    obtain ⟨h8, h9, H⟩ := H
    refine tw_aldb (t := ((600 * v1) + v3)) (iI_addE (iI_mulE rfl rfl) rfl) h8 h9 ?_
    obtain ⟨h10, h11, H⟩ := H
    refine tw_astb (t := ((600 * v2) + v3)) (x := (S.2.2 1 (Int.toNat ((600 * v1) + v3)))) hm (iI_addE (iI_mulE rfl rfl) rfl) h10 h11 rfl ?_
    exact pw_eqL (g_k (g_i rfl (g_i rfl (g_i (iI_addE rfl rfl) g_0)))) H
theorem t_X2_copyRow_0 {E : pw_E} {d : Nat} {w0 : pw_W} {m : Nat} {S : tw_S} {Post : pw_R → pw_W → Prop} (hm : pw_base E ≤ m) (k0 : Nat) (hk : (decide (1 < k0) && decide (k0 < 16)) = true) (v1 : Int) (v2 : Int) (v3 : Int) (H : pw_Wp E m_X2_copyRow (d + 1) 3 [some (va_rf (some (m + k0))), some (.int (iI v1)), some (.int (iI v2)), some (.int (iI v3)), some (.int (iI 0))] [] (tw w0 m S) Post) : pw_Wp E m_X2_copyRow (d + 1) 0 [some (va_rf (some (m + k0))), some (.int (iI v1)), some (.int (iI v2)), some (.int (iI v3)), none] [] (tw w0 m S) Post := by
  refine s_X2_copyRow_0 (some (m + k0)) (iI v1) (iI v2) (iI v3) ?_
  exact pw_eqL (g_k (g_i rfl (g_i rfl (g_i rfl (g_i rfl g_0))))) H
theorem t_X2_copyRow_3 {E : pw_E} {d : Nat} {w0 : pw_W} {m : Nat} {S : tw_S} {Post : pw_R → pw_W → Prop} (hm : pw_base E ≤ m) (k0 : Nat) (hk : (decide (1 < k0) && decide (k0 < 16)) = true) (v1 : Int) (v2 : Int) (v3 : Int) (v4 : Int) (H : (rI v1 ∧ rI v4 ∧ if v1 ≤ v4 then Post (.inl none) (tw w0 m S) else ((0 : Int) ≤ ((v1 * v2) + v4) ∧ ((v1 * v2) + v4) < tw_len k0 ∧ ((0 : Int) ≤ ((v1 * v3) + v4) ∧ ((v1 * v3) + v4) < tw_len k0 ∧ pw_Wp E m_X2_copyRow (d + 1) 3 [some (va_rf (some (m + k0))), some (.int (iI v1)), some (.int (iI v2)), some (.int (iI v3)), some (.int (iI (v4 + 1)))] [] (tw w0 m (tw_sa S k0 (Int.toNat ((v1 * v3) + v4)) (S.2.2 k0 (Int.toNat ((v1 * v2) + v4))))) Post)))) : pw_Wp E m_X2_copyRow (d + 1) 3 [some (va_rf (some (m + k0))), some (.int (iI v1)), some (.int (iI v2)), some (.int (iI v3)), some (.int (iI v4))] [] (tw w0 m S) Post := by
  refine s_X2_copyRow_3 (some (m + k0)) (iI v1) (iI v2) (iI v3) (iI v4) ?_
  obtain ⟨h5, H⟩ := H
  obtain ⟨h6, H⟩ := H
  refine f_leE (s := v1) (t := v4) rfl rfl h5 h6 H (fun H => ?_) (fun H => ?_)
  · exact H
  · obtain ⟨h1, h2, H⟩ := H
    refine tw_aldi (k := k0) (t := ((v1 * v2) + v4)) hk (iI_addE (iI_mulE rfl rfl) rfl) h1 h2 ?_
    obtain ⟨h3, h4, H⟩ := H
    refine tw_asti (k := k0) (t := ((v1 * v3) + v4)) (x := (S.2.2 k0 (Int.toNat ((v1 * v2) + v4)))) hm hk (iI_addE (iI_mulE rfl rfl) rfl) h3 h4 rfl ?_
    exact pw_eqL (g_k (g_i rfl (g_i rfl (g_i rfl (g_i (iI_addE rfl rfl) g_0))))) H
theorem t_X2_count_0 {E : pw_E} {d : Nat} {w0 : pw_W} {m : Nat} {S : tw_S} {Post : pw_R → pw_W → Prop} (hm : pw_base E ≤ m) (v1 : Int) (H : pw_Cl E m_X2_in d [.int (iI v1), .int (iI 0), .int (iI 2)] (tw w0 m (tw_sf S 0 0)) (c_z (t_b w0 m (fun b2 S1 => (if b2 = true then ((0 : Int) ≤ v1 ∧ v1 < 12 ∧ Post (.inl (some (.int (iI (S1.2.2 5 (Int.toNat v1)))))) (tw w0 m S1)) else Post (.inl (some (.int (iI (-2))))) (tw w0 m S1)))))) : pw_Wp E m_X2_count (d + 1) 0 [some (va_rf (some m)), some (.int (iI v1))] [] (tw w0 m S) Post := by
  refine s_X2_count_0 (some m) (iI v1) ?_
  refine tw_puti (x := 0) hm rfl rfl ?_
  refine pw_avE (l_i rfl (l_i rfl (l_i rfl l_0))) (H.mono (t_bE (fun b2 S1 H => ?_)))
  refine f_bE H (fun H => ?_) (fun H => ?_)
  · exact c_pi rfl H
  · refine tw_getr rfl ?_
    obtain ⟨h3, h4, H⟩ := H
    refine tw_aldi (k := 5) (t := v1) rfl rfl h3 h4 ?_
    exact c_pi rfl H
theorem t_X2_dated_0 {E : pw_E} {d : Nat} {w0 : pw_W} {m : Nat} {S : tw_S} {Post : pw_R → pw_W → Prop} (hm : pw_base E ≤ m) (v1 : Int) (v2 : Int) (H : pw_Cl E m_X2_hand d [va_rf (some m), .int (iI v1)] (tw w0 m (tw_sf S 0 0)) (c_z (t_b w0 m (fun b2 S1 => (if b2 = true then pw_Wp E m_X2_dated (d + 1) 17 [some (va_rf (some m)), none, some (.int (iI v2)), some (.int (iI 0))] [] (tw w0 m S1) Post else Post (.inl (some (.int (iI (-1))))) (tw w0 m S1)))))) : pw_Wp E m_X2_dated (d + 1) 0 [some (va_rf (some m)), some (.int (iI v1)), some (.int (iI v2)), none] [] (tw w0 m S) Post := by
  refine s_X2_dated_0 (some m) (iI v1) (iI v2) ?_
  refine tw_puti (x := 0) hm rfl rfl ?_
  refine tw_V ?_
  refine pw_avE (l_k (l_i rfl l_0)) (H.mono (t_bE (fun b2 S1 H => ?_)))
  refine f_bE H (fun H => ?_) (fun H => ?_)
  · exact c_pi rfl H
  · exact pw_eqL (g_k (g_k (g_i rfl (g_i rfl g_0)))) H
theorem t_X2_dated_17 {E : pw_E} {d : Nat} {w0 : pw_W} {m : Nat} {S : tw_S} {Post : pw_R → pw_W → Prop} (hm : pw_base E ≤ m) (v2 : Int) (v3 : Int) (H : (rI v3 ∧ if (40 : Int) ≤ v3 then Post (.inl (some (.int (iI (-1))))) (tw w0 m S) else pw_Cl E m_X2_isVersion d [va_rf (some m), .int (iI (Int32.toInt ((iI v3) / 10))), .int (iI (Int32.toInt ((iI v3) - (iI v3) / 10 * 10)))] (tw w0 m S) (c_z (t_b w0 m (fun b2 S1 => (if b2 = true then ((0 : Int) ≤ (6 + v3) ∧ (6 + v3) < 1526 ∧ (rI (S1.2.2 9 (Int.toNat (6 + v3))) ∧ rI v2 ∧ if (S1.2.2 9 (Int.toNat (6 + v3))) = v2 then Post (.inl (some (.int (iI (Int32.toInt ((iI v3) / 10)))))) (tw w0 m S1) else pw_Wp E m_X2_dated (d + 1) 17 [some (va_rf (some m)), none, some (.int (iI v2)), some (.int (iI (v3 + 1)))] [] (tw w0 m S1) Post)) else pw_Wp E m_X2_dated (d + 1) 17 [some (va_rf (some m)), none, some (.int (iI v2)), some (.int (iI (v3 + 1)))] [] (tw w0 m S1) Post)))))) : pw_Wp E m_X2_dated (d + 1) 17 [some (va_rf (some m)), none, some (.int (iI v2)), some (.int (iI v3))] [] (tw w0 m S) Post := by
  refine s_X2_dated_17 (some m) (iI v2) (iI v3) ?_
  obtain ⟨h7, H⟩ := H
  refine f_leE (s := 40) (t := v3) rfl rfl (by constructor <;> decide) h7 H (fun H => ?_) (fun H => ?_)
  · exact c_pi rfl H
  · refine tw_V ?_
    refine pw_avE (l_k (l_i (iI_oE _) (l_i (iI_oE _) l_0))) (H.mono (t_bE (fun b2 S1 H => ?_)))
    refine f_bE H (fun H => ?_) (fun H => ?_)
    · exact pw_eqL (g_k (g_k (g_i rfl (g_i (iI_addE rfl rfl) g_0)))) H
    · refine tw_getr rfl ?_
      obtain ⟨h3, h4, H⟩ := H
      refine tw_aldi (k := 9) (t := (6 + v3)) rfl (iI_addE rfl rfl) h3 h4 ?_
      obtain ⟨h5, H⟩ := H
      obtain ⟨h6, H⟩ := H
      refine f_eqE (s := (S1.2.2 9 (Int.toNat (6 + v3)))) (t := v2) rfl rfl h5 h6 H (fun H => ?_) (fun H => ?_)
      · exact c_pi (iI_oE _) H
      · exact pw_eqL (g_k (g_k (g_i rfl (g_i (iI_addE rfl rfl) g_0)))) H
theorem t_X2_docLine_0 {E : pw_E} {d : Nat} {w0 : pw_W} {m : Nat} {S : tw_S} {Post : pw_R → pw_W → Prop} (hm : pw_base E ≤ m) (v1 : Int) (H : (rI (S.2.2 9 0) ∧ if (S.2.2 9 0) = 4 then pw_Cl E m_X2_addsFault d [va_rf (some m), .int (iI 3), .int (iI v1)] (tw w0 m S) (c_v (t_u w0 m (fun S3 => pw_Cl E m_X2_token d [va_rf (some m)] (tw w0 m S3) (c_v (t_u w0 m (fun S4 => pw_Cl E m_X2_takeWords d [va_rf (some m), .int (iI 20)] (tw w0 m S4) (c_v (t_u w0 m (fun S5 => (rI (S5.1 16) ∧ if (S5.1 16) = 0 then pw_Cl E m_X2_beginVersion d [va_rf (some m), .int (iI (S5.2.2 9 0))] (tw w0 m (tw_sa S5 9 0 ((S5.2.2 9 0) + 1))) (c_v (t_u w0 m (fun S12 => pw_Wp E m_X2_docLine (d + 1) 57 [some (va_rf (some m)), none, some (.int (iI (S5.2.2 9 0))), some (.int (iI 0))] [] (tw w0 m S12) Post))) else Post (.inl (some (.int (iI 1)))) (tw w0 m S5))))))))))) else pw_Cl E m_X2_token d [va_rf (some m)] (tw w0 m S) (c_v (t_u w0 m (fun S14 => pw_Cl E m_X2_takeWords d [va_rf (some m), .int (iI 20)] (tw w0 m S14) (c_v (t_u w0 m (fun S15 => (rI (S15.1 16) ∧ if (S15.1 16) = 0 then pw_Cl E m_X2_beginVersion d [va_rf (some m), .int (iI (S15.2.2 9 0))] (tw w0 m (tw_sa S15 9 0 ((S15.2.2 9 0) + 1))) (c_v (t_u w0 m (fun S22 => pw_Wp E m_X2_docLine (d + 1) 57 [some (va_rf (some m)), none, some (.int (iI (S15.2.2 9 0))), some (.int (iI 0))] [] (tw w0 m S22) Post))) else Post (.inl (some (.int (iI 1)))) (tw w0 m S15)))))))))) : pw_Wp E m_X2_docLine (d + 1) 0 [some (va_rf (some m)), some (.int (iI v1)), none, none] [] (tw w0 m S) Post := by
  refine s_X2_docLine_0 (some m) (iI v1) ?_
  refine tw_getr rfl ?_
  refine tw_aldi (k := 9) (t := 0) rfl rfl (by decide) (by decide) ?_
  obtain ⟨h24, H⟩ := H
  refine f_eqE (s := (S.2.2 9 0)) (t := 4) rfl rfl h24 (by constructor <;> decide) H (fun H => ?_) (fun H => ?_)
  · refine tw_V ?_
    refine pw_avE (l_k (l_i rfl (l_i rfl l_0))) (H.mono (t_uE (fun S3 H => ?_)))
    refine tw_V ?_
    refine pw_avE (l_k l_0) (H.mono (t_uE (fun S4 H => ?_)))
    refine tw_V ?_
    refine pw_avE (l_k (l_i rfl l_0)) (H.mono (t_uE (fun S5 H => ?_)))
    refine tw_geti rfl ?_
    obtain ⟨h13, H⟩ := H
    refine f_eqE (s := (S5.1 16)) (t := 0) rfl rfl h13 (by constructor <;> decide) H (fun H => ?_) (fun H => ?_)
    · refine tw_getr rfl ?_
      refine tw_aldi (k := 9) (t := 0) rfl rfl (by decide) (by decide) ?_
      refine tw_getr rfl ?_
      refine tw_aldi (k := 9) (t := 0) rfl rfl (by decide) (by decide) ?_
      refine tw_asti (k := 9) (t := 0) (x := ((S5.2.2 9 0) + 1)) hm rfl rfl (by decide) (by decide) (iI_addE rfl rfl) ?_
      refine tw_V ?_
      refine pw_avE (l_k (l_i rfl l_0)) (H.mono (t_uE (fun S12 H => ?_)))
      exact pw_eqL (g_k (g_k (g_i rfl (g_i rfl g_0)))) H
    · exact c_pi rfl H
  · refine tw_V ?_
    refine pw_avE (l_k l_0) (H.mono (t_uE (fun S14 H => ?_)))
    refine tw_V ?_
    refine pw_avE (l_k (l_i rfl l_0)) (H.mono (t_uE (fun S15 H => ?_)))
    refine tw_geti rfl ?_
    obtain ⟨h23, H⟩ := H
    refine f_eqE (s := (S15.1 16)) (t := 0) rfl rfl h23 (by constructor <;> decide) H (fun H => ?_) (fun H => ?_)
    · refine tw_getr rfl ?_
      refine tw_aldi (k := 9) (t := 0) rfl rfl (by decide) (by decide) ?_
      refine tw_getr rfl ?_
      refine tw_aldi (k := 9) (t := 0) rfl rfl (by decide) (by decide) ?_
      refine tw_asti (k := 9) (t := 0) (x := ((S15.2.2 9 0) + 1)) hm rfl rfl (by decide) (by decide) (iI_addE rfl rfl) ?_
      refine tw_V ?_
      refine pw_avE (l_k (l_i rfl l_0)) (H.mono (t_uE (fun S22 H => ?_)))
      exact pw_eqL (g_k (g_k (g_i rfl (g_i rfl g_0)))) H
    · exact c_pi rfl H
theorem t_X2_docLine_57 {E : pw_E} {d : Nat} {w0 : pw_W} {m : Nat} {S : tw_S} {Post : pw_R → pw_W → Prop} (hm : pw_base E ≤ m) (v2 : Int) (v3 : Int) (H : (rI (S.1 21) ∧ rI v3 ∧ if (S.1 21) ≤ v3 then Post (.inl (some (.int (iI 1)))) (tw w0 m S) else ((0 : Int) ≤ v3 ∧ v3 < 300 ∧ pw_Cl E m_X2_newToken d [va_rf (some m), .int (iI v2), .int (iI (S.2.2 11 (Int.toNat v3)))] (tw w0 m S) (c_i (t_i w0 m (fun z4 S3 => pw_Cl E m_X2_addWord d [va_rf (some m), .int (iI v2), .int (iI z4)] (tw w0 m S3) (c_v (t_u w0 m (fun S5 => pw_Wp E m_X2_docLine (d + 1) 57 [some (va_rf (some m)), none, some (.int (iI v2)), some (.int (iI (v3 + 1)))] [] (tw w0 m S5) Post))))))))) : pw_Wp E m_X2_docLine (d + 1) 57 [some (va_rf (some m)), none, some (.int (iI v2)), some (.int (iI v3))] [] (tw w0 m S) Post := by
  refine s_X2_docLine_57 (some m) (iI v2) (iI v3) ?_
  refine tw_geti rfl ?_
  obtain ⟨h6, H⟩ := H
  obtain ⟨h7, H⟩ := H
  refine f_leE (s := (S.1 21)) (t := v3) rfl rfl h6 h7 H (fun H => ?_) (fun H => ?_)
  · exact c_pi rfl H
  · refine tw_getr rfl ?_
    obtain ⟨h1, h2, H⟩ := H
    refine tw_aldi (k := 11) (t := v3) rfl rfl h1 h2 ?_
    refine tw_V ?_
    refine pw_avE (l_k (l_i rfl (l_i rfl l_0))) (H.mono (t_iE (fun z4 S3 H => ?_)))
    refine tw_V ?_
    refine pw_avE (l_k (l_i rfl (l_i rfl l_0))) (H.mono (t_uE (fun S5 H => ?_)))
    exact pw_eqL (g_k (g_k (g_i rfl (g_i (iI_addE rfl rfl) g_0)))) H
theorem t_X2_docsBy_0 {E : pw_E} {d : Nat} {w0 : pw_W} {m : Nat} {S : tw_S} {Post : pw_R → pw_W → Prop} (hm : pw_base E ≤ m) (v1 : Int) (v2 : Bool) (H : pw_Wp E m_X2_docsBy (d + 1) 5 [some (va_rf (some m)), some (.int (iI v1)), some (.int (bI v2)), some (.int (iI 0)), some (.int (iI 0)), none] [] (tw w0 m S) Post) : pw_Wp E m_X2_docsBy (d + 1) 0 [some (va_rf (some m)), some (.int (iI v1)), some (.int (bI v2)), none, none, none] [] (tw w0 m S) Post := by
  refine s_X2_docsBy_0 (some m) (iI v1) v2 ?_
  exact pw_eqL (g_k (g_i rfl (g_k (g_i rfl (g_i rfl (g_k g_0)))))) H
theorem t_X2_docsBy_5 {E : pw_E} {d : Nat} {w0 : pw_W} {m : Nat} {S : tw_S} {Post : pw_R → pw_W → Prop} (hm : pw_base E ≤ m) (v1 : Int) (v2 : Bool) (v3 : Int) (v4 : Int) (H : (rI (S.2.2 9 0) ∧ rI v4 ∧ if (S.2.2 9 0) ≤ v4 then Post (.inl (some (.int (iI v3)))) (tw w0 m S) else ((0 : Int) ≤ ((4 * v1) + v4) ∧ ((4 * v1) + v4) < 32 ∧ (if v2 = true then pw_Cl E m_X2_ones d [.int (iI (S.2.2 14 (Int.toNat ((4 * v1) + v4))))] (tw w0 m S) (c_i (t_i w0 m (fun z7 S6 => pw_Cl E m_X2_versions d [va_rf (some m), .int (iI v4)] (tw w0 m S6) (c_i (t_i w0 m (fun z9 S8 => (rI z7 ∧ rI z9 ∧ if z7 = z9 then pw_Wp E m_X2_docsBy (d + 1) 5 [some (va_rf (some m)), some (.int (iI v1)), some (.int (bI v2)), some (.int (iI (Int32.toInt ((iI v3) ||| (1 <<< ((iI v4) &&& 31)))))), some (.int (iI (v4 + 1))), none] [] (tw w0 m S8) Post else pw_Wp E m_X2_docsBy (d + 1) 5 [some (va_rf (some m)), some (.int (iI v1)), some (.int (bI v2)), some (.int (iI (Int32.toInt ((iI v3) ||| 0)))), some (.int (iI (v4 + 1))), none] [] (tw w0 m S8) Post))))))) else (rI (S.2.2 14 (Int.toNat ((4 * v1) + v4))) ∧ if (S.2.2 14 (Int.toNat ((4 * v1) + v4))) = 0 then pw_Wp E m_X2_docsBy (d + 1) 5 [some (va_rf (some m)), some (.int (iI v1)), some (.int (bI v2)), some (.int (iI (Int32.toInt ((iI v3) ||| 0)))), some (.int (iI (v4 + 1))), none] [] (tw w0 m S) Post else pw_Wp E m_X2_docsBy (d + 1) 5 [some (va_rf (some m)), some (.int (iI v1)), some (.int (bI v2)), some (.int (iI (Int32.toInt ((iI v3) ||| (1 <<< ((iI v4) &&& 31)))))), some (.int (iI (v4 + 1))), none] [] (tw w0 m S) Post))))) : pw_Wp E m_X2_docsBy (d + 1) 5 [some (va_rf (some m)), some (.int (iI v1)), some (.int (bI v2)), some (.int (iI v3)), some (.int (iI v4)), none] [] (tw w0 m S) Post := by
  refine s_X2_docsBy_5 (some m) (iI v1) v2 (iI v3) (iI v4) ?_
  refine tw_getr rfl ?_
  refine tw_aldi (k := 9) (t := 0) rfl rfl (by decide) (by decide) ?_
  obtain ⟨h12, H⟩ := H
  obtain ⟨h13, H⟩ := H
  refine f_leE (s := (S.2.2 9 0)) (t := v4) rfl rfl h12 h13 H (fun H => ?_) (fun H => ?_)
  · exact c_pi rfl H
  · refine tw_getr rfl ?_
    obtain ⟨h3, h4, H⟩ := H
    refine tw_aldi (k := 14) (t := ((4 * v1) + v4)) rfl (iI_addE (iI_mulE rfl rfl) rfl) h3 h4 ?_
    refine f_bE H (fun H => ?_) (fun H => ?_)
    · obtain ⟨h5, H⟩ := H
      refine f_eqE (s := (S.2.2 14 (Int.toNat ((4 * v1) + v4)))) (t := 0) rfl rfl h5 (by constructor <;> decide) H (fun H => ?_) (fun H => ?_)
      · exact pw_eqL (g_k (g_i rfl (g_k (g_i (iI_oE _) (g_i (iI_addE rfl rfl) (g_k g_0)))))) H
      · exact pw_eqL (g_k (g_i rfl (g_k (g_i (iI_oE _) (g_i (iI_addE rfl rfl) (g_k g_0)))))) H
    · refine pw_avE (l_i rfl l_0) (H.mono (t_iE (fun z7 S6 H => ?_)))
      refine tw_V ?_
      refine pw_avE (l_k (l_i rfl l_0)) (H.mono (t_iE (fun z9 S8 H => ?_)))
      obtain ⟨h10, H⟩ := H
      obtain ⟨h11, H⟩ := H
      refine f_eqE (s := z7) (t := z9) rfl rfl h10 h11 H (fun H => ?_) (fun H => ?_)
      · exact pw_eqL (g_k (g_i rfl (g_k (g_i (iI_oE _) (g_i (iI_addE rfl rfl) (g_k g_0)))))) H
      · exact pw_eqL (g_k (g_i rfl (g_k (g_i (iI_oE _) (g_i (iI_addE rfl rfl) (g_k g_0)))))) H
theorem t_X2_draw_0 {E : pw_E} {d : Nat} {w0 : pw_W} {m : Nat} {S : tw_S} {Post : pw_R → pw_W → Prop} (hm : pw_base E ≤ m) (v1 : Int) (H : (rI v1 ∧ v1 ≠ (0 : Int) ∧ Post (.inl (some (.int (iI (Int32.toInt ((((iI (((S.1 35) * 1103515245) + 12345)).toUInt32 >>> ((16 : Int32).toUInt32 &&& Int32.toUInt32 31)).toInt32) - (((iI (((S.1 35) * 1103515245) + 12345)).toUInt32 >>> ((16 : Int32).toUInt32 &&& Int32.toUInt32 31)).toInt32) / (iI v1) * (iI v1))))))) (tw w0 m (tw_sf S 35 (((S.1 35) * 1103515245) + 12345))))) : pw_Wp E m_X2_draw (d + 1) 0 [some (va_rf (some m)), some (.int (iI v1))] [] (tw w0 m S) Post := by
  refine s_X2_draw_0 (some m) (iI v1) ?_
  refine tw_geti rfl ?_
  refine tw_puti (x := (((S.1 35) * 1103515245) + 12345)) hm rfl (iI_addE (iI_mulE rfl rfl) rfl) ?_
  refine tw_geti rfl ?_
  obtain ⟨h1, h2, H⟩ := H
  refine ⟨f_ne0 rfl h1 h2, ?_⟩
  exact c_pi (iI_oE _) H
theorem t_X2_drawChange_0 {E : pw_E} {d : Nat} {w0 : pw_W} {m : Nat} {S : tw_S} {Post : pw_R → pw_W → Prop} (hm : pw_base E ≤ m)  (H : pw_Cl E m_X2_draw d [va_rf (some m), .int (iI (S.2.2 9 0))] (tw w0 m S) (c_i (t_i w0 m (fun z4 S3 => pw_Cl E m_X2_draw d [va_rf (some m), .int (iI 6)] (tw w0 m S3) (c_i (t_i w0 m (fun z6 S5 => pw_Cl E m_X2_versions d [va_rf (some m), .int (iI z4)] (tw w0 m S5) (c_i (t_i w0 m (fun z8 S7 => pw_Cl E m_X2_longOf d [va_rf (some m), .int (iI z4), .int (iI (z8 - 1))] (tw w0 m S7) (c_i (t_i w0 m (fun z10 S9 => pw_Cl E m_X2_firstToken d [va_rf (some m), .int (iI z4)] (tw w0 m S9) (c_i (t_i w0 m (fun z12 S11 => (rI z6 ∧ if z6 = 5 then pw_Cl E m_X2_versions d [va_rf (some m), .int (iI z4)] (tw w0 m (tw_sf (tw_sa S11 10 0 z4) 21 0)) (c_i (t_i w0 m (fun z16 S15 => pw_Cl E m_X2_draw d [va_rf (some m), .int (iI z16)] (tw w0 m S15) (c_i (t_i w0 m (fun z18 S17 => pw_Cl E m_X2_makes d [va_rf (some m), .int (iI 3)] (tw w0 m (tw_sa S17 10 1 z18)) (c_v (t_u w0 m (fun S21 => Post (.inl none) (tw w0 m S21)))))))))) else (rI z6 ∧ if z6 = 2 then (rI z12 ∧ if z12 = (-1) then Post (.inl none) (tw w0 m (tw_sf (tw_sa S11 10 0 z4) 21 0)) else pw_Wp E m_X2_drawChange (d + 1) 100 [some (va_rf (some m)), none, some (.int (iI z6)), some (.int (iI z10)), some (.int (iI z12))] [] (tw w0 m (tw_sf (tw_sa S11 10 0 z4) 21 0)) Post) else (rI z6 ∧ if z6 = 3 then (rI z12 ∧ if z12 = (-1) then Post (.inl none) (tw w0 m (tw_sf (tw_sa S11 10 0 z4) 21 0)) else pw_Wp E m_X2_drawChange (d + 1) 100 [some (va_rf (some m)), none, some (.int (iI z6)), some (.int (iI z10)), some (.int (iI z12))] [] (tw w0 m (tw_sf (tw_sa S11 10 0 z4) 21 0)) Post) else (rI z10 ∧ if z10 = 0 then Post (.inl none) (tw w0 m (tw_sf (tw_sa S11 10 0 z4) 21 0)) else pw_Wp E m_X2_drawChange (d + 1) 100 [some (va_rf (some m)), none, some (.int (iI z6)), some (.int (iI z10)), some (.int (iI z12))] [] (tw w0 m (tw_sf (tw_sa S11 10 0 z4) 21 0)) Post)))))))))))))))))))) : pw_Wp E m_X2_drawChange (d + 1) 0 [some (va_rf (some m)), none, none, none, none] [] (tw w0 m S) Post := by
  refine s_X2_drawChange_0 (some m) ?_
  refine tw_getr rfl ?_
  refine tw_aldi (k := 9) (t := 0) rfl rfl (by decide) (by decide) ?_
  refine tw_V ?_
  refine pw_avE (l_k (l_i rfl l_0)) (H.mono (t_iE (fun z4 S3 H => ?_)))
  refine tw_V ?_
  refine pw_avE (l_k (l_i rfl l_0)) (H.mono (t_iE (fun z6 S5 H => ?_)))
  refine tw_V ?_
  refine pw_avE (l_k (l_i rfl l_0)) (H.mono (t_iE (fun z8 S7 H => ?_)))
  refine tw_V ?_
  refine pw_avE (l_k (l_i rfl (l_i (iI_subE rfl rfl) l_0))) (H.mono (t_iE (fun z10 S9 H => ?_)))
  refine tw_V ?_
  refine pw_avE (l_k (l_i rfl l_0)) (H.mono (t_iE (fun z12 S11 H => ?_)))
  refine tw_getr rfl ?_
  refine tw_asti (k := 10) (t := 0) (x := z4) hm rfl rfl (by decide) (by decide) rfl ?_
  refine tw_puti (x := 0) hm rfl rfl ?_
  obtain ⟨h27, H⟩ := H
  refine f_eqE (s := z6) (t := 5) rfl rfl h27 (by constructor <;> decide) H (fun H => ?_) (fun H => ?_)
  · refine tw_getr rfl ?_
    refine tw_V ?_
    refine pw_avE (l_k (l_i rfl l_0)) (H.mono (t_iE (fun z16 S15 H => ?_)))
    refine tw_V ?_
    refine pw_avE (l_k (l_i rfl l_0)) (H.mono (t_iE (fun z18 S17 H => ?_)))
    refine tw_asti (k := 10) (t := 1) (x := z18) hm rfl rfl (by decide) (by decide) rfl ?_
    refine tw_V ?_
    refine pw_avE (l_k (l_i rfl l_0)) (H.mono (t_uE (fun S21 H => ?_)))
    exact H
  · obtain ⟨h26, H⟩ := H
    refine f_eqE (s := z6) (t := 2) rfl rfl h26 (by constructor <;> decide) H (fun H => ?_) (fun H => ?_)
    · obtain ⟨h22, H⟩ := H
      refine f_eqE (s := z12) (t := (-1)) rfl rfl h22 (by constructor <;> decide) H (fun H => ?_) (fun H => ?_)
      · exact H
      · exact pw_eqL (g_k (g_k (g_i rfl (g_i rfl (g_i rfl g_0))))) H
    · obtain ⟨h25, H⟩ := H
      refine f_eqE (s := z6) (t := 3) rfl rfl h25 (by constructor <;> decide) H (fun H => ?_) (fun H => ?_)
      · obtain ⟨h23, H⟩ := H
        refine f_eqE (s := z12) (t := (-1)) rfl rfl h23 (by constructor <;> decide) H (fun H => ?_) (fun H => ?_)
        · exact H
        · exact pw_eqL (g_k (g_k (g_i rfl (g_i rfl (g_i rfl g_0))))) H
      · obtain ⟨h24, H⟩ := H
        refine f_eqE (s := z10) (t := 0) rfl rfl h24 (by constructor <;> decide) H (fun H => ?_) (fun H => ?_)
        · exact H
        · exact pw_eqL (g_k (g_k (g_i rfl (g_i rfl (g_i rfl g_0))))) H
theorem t_X2_drawChange_100 {E : pw_E} {d : Nat} {w0 : pw_W} {m : Nat} {S : tw_S} {Post : pw_R → pw_W → Prop} (hm : pw_base E ≤ m) (v2 : Int) (v3 : Int) (v4 : Int) (H : (rI v2 ∧ if v2 = 2 then pw_Cl E m_X2_draw d [va_rf (some m), .int (iI (v3 + 1))] (tw w0 m S) (c_i (t_i w0 m (fun z2 S1 => (rI v2 ∧ if (2 : Int) ≤ v2 then (rI v2 ∧ if v2 = 4 then pw_Cl E m_X2_draw d [va_rf (some m), .int (iI v3)] (tw w0 m (tw_sa S1 10 1 z2)) (c_i (t_i w0 m (fun z6 S5 => pw_Wp E m_X2_drawChange (d + 1) 155 [some (va_rf (some m)), none, some (.int (iI v2)), none, some (.int (iI v4))] [.int (iI z6), .int (iI 2), va_rf (some (m + 10))] (tw w0 m S5) Post))) else pw_Wp E m_X2_drawChange (d + 1) 155 [some (va_rf (some m)), none, some (.int (iI v2)), none, some (.int (iI v4))] [.int (iI (-1)), .int (iI 2), va_rf (some (m + 10))] (tw w0 m (tw_sa S1 10 1 z2)) Post) else pw_Wp E m_X2_drawChange (d + 1) 155 [some (va_rf (some m)), none, some (.int (iI v2)), none, some (.int (iI v4))] [.int (iI 1), .int (iI 2), va_rf (some (m + 10))] (tw w0 m (tw_sa S1 10 1 z2)) Post)))) else (rI v2 ∧ if v2 = 3 then pw_Cl E m_X2_draw d [va_rf (some m), .int (iI (v3 + 1))] (tw w0 m S) (c_i (t_i w0 m (fun z10 S9 => (rI v2 ∧ if (2 : Int) ≤ v2 then (rI v2 ∧ if v2 = 4 then pw_Cl E m_X2_draw d [va_rf (some m), .int (iI v3)] (tw w0 m (tw_sa S9 10 1 z10)) (c_i (t_i w0 m (fun z14 S13 => pw_Wp E m_X2_drawChange (d + 1) 155 [some (va_rf (some m)), none, some (.int (iI v2)), none, some (.int (iI v4))] [.int (iI z14), .int (iI 2), va_rf (some (m + 10))] (tw w0 m S13) Post))) else pw_Wp E m_X2_drawChange (d + 1) 155 [some (va_rf (some m)), none, some (.int (iI v2)), none, some (.int (iI v4))] [.int (iI (-1)), .int (iI 2), va_rf (some (m + 10))] (tw w0 m (tw_sa S9 10 1 z10)) Post) else pw_Wp E m_X2_drawChange (d + 1) 155 [some (va_rf (some m)), none, some (.int (iI v2)), none, some (.int (iI v4))] [.int (iI 1), .int (iI 2), va_rf (some (m + 10))] (tw w0 m (tw_sa S9 10 1 z10)) Post)))) else pw_Cl E m_X2_draw d [va_rf (some m), .int (iI v3)] (tw w0 m S) (c_i (t_i w0 m (fun z18 S17 => (rI v2 ∧ if (2 : Int) ≤ v2 then (rI v2 ∧ if v2 = 4 then pw_Cl E m_X2_draw d [va_rf (some m), .int (iI v3)] (tw w0 m (tw_sa S17 10 1 z18)) (c_i (t_i w0 m (fun z22 S21 => pw_Wp E m_X2_drawChange (d + 1) 155 [some (va_rf (some m)), none, some (.int (iI v2)), none, some (.int (iI v4))] [.int (iI z22), .int (iI 2), va_rf (some (m + 10))] (tw w0 m S21) Post))) else pw_Wp E m_X2_drawChange (d + 1) 155 [some (va_rf (some m)), none, some (.int (iI v2)), none, some (.int (iI v4))] [.int (iI (-1)), .int (iI 2), va_rf (some (m + 10))] (tw w0 m (tw_sa S17 10 1 z18)) Post) else pw_Wp E m_X2_drawChange (d + 1) 155 [some (va_rf (some m)), none, some (.int (iI v2)), none, some (.int (iI v4))] [.int (iI 1), .int (iI 2), va_rf (some (m + 10))] (tw w0 m (tw_sa S17 10 1 z18)) Post))))))) : pw_Wp E m_X2_drawChange (d + 1) 100 [some (va_rf (some m)), none, some (.int (iI v2)), some (.int (iI v3)), some (.int (iI v4))] [] (tw w0 m S) Post := by
  refine s_X2_drawChange_100 (some m) (iI v2) (iI v3) (iI v4) ?_
  refine tw_getr rfl ?_
  obtain ⟨h26, H⟩ := H
  refine f_eqE (s := v2) (t := 2) rfl rfl h26 (by constructor <;> decide) H (fun H => ?_) (fun H => ?_)
  · refine tw_V ?_
    refine pw_avE (l_k (l_i (iI_addE rfl rfl) l_0)) (H.mono (t_iE (fun z2 S1 H => ?_)))
    refine tw_asti (k := 10) (t := 1) (x := z2) hm rfl rfl (by decide) (by decide) rfl ?_
    refine tw_getr rfl ?_
    obtain ⟨h8, H⟩ := H
    refine f_leE (s := 2) (t := v2) rfl rfl (by constructor <;> decide) h8 H (fun H => ?_) (fun H => ?_)
    · obtain ⟨h7, H⟩ := H
      refine f_eqE (s := v2) (t := 4) rfl rfl h7 (by constructor <;> decide) H (fun H => ?_) (fun H => ?_)
      · refine tw_V ?_
        refine pw_avE (l_k (l_i rfl l_0)) (H.mono (t_iE (fun z6 S5 H => ?_)))
        refine pw_stE (l_i rfl (l_i rfl (l_k l_0))) ?_
        exact pw_eqL (g_k (g_k (g_i rfl (g_k (g_i rfl g_0))))) H
      · refine pw_stE (l_i rfl (l_i rfl (l_k l_0))) ?_
        exact pw_eqL (g_k (g_k (g_i rfl (g_k (g_i rfl g_0))))) H
    · refine pw_stE (l_i rfl (l_i rfl (l_k l_0))) ?_
      exact pw_eqL (g_k (g_k (g_i rfl (g_k (g_i rfl g_0))))) H
  · obtain ⟨h25, H⟩ := H
    refine f_eqE (s := v2) (t := 3) rfl rfl h25 (by constructor <;> decide) H (fun H => ?_) (fun H => ?_)
    · refine tw_V ?_
      refine pw_avE (l_k (l_i (iI_addE rfl rfl) l_0)) (H.mono (t_iE (fun z10 S9 H => ?_)))
      refine tw_asti (k := 10) (t := 1) (x := z10) hm rfl rfl (by decide) (by decide) rfl ?_
      refine tw_getr rfl ?_
      obtain ⟨h16, H⟩ := H
      refine f_leE (s := 2) (t := v2) rfl rfl (by constructor <;> decide) h16 H (fun H => ?_) (fun H => ?_)
      · obtain ⟨h15, H⟩ := H
        refine f_eqE (s := v2) (t := 4) rfl rfl h15 (by constructor <;> decide) H (fun H => ?_) (fun H => ?_)
        · refine tw_V ?_
          refine pw_avE (l_k (l_i rfl l_0)) (H.mono (t_iE (fun z14 S13 H => ?_)))
          refine pw_stE (l_i rfl (l_i rfl (l_k l_0))) ?_
          exact pw_eqL (g_k (g_k (g_i rfl (g_k (g_i rfl g_0))))) H
        · refine pw_stE (l_i rfl (l_i rfl (l_k l_0))) ?_
          exact pw_eqL (g_k (g_k (g_i rfl (g_k (g_i rfl g_0))))) H
      · refine pw_stE (l_i rfl (l_i rfl (l_k l_0))) ?_
        exact pw_eqL (g_k (g_k (g_i rfl (g_k (g_i rfl g_0))))) H
    · refine tw_V ?_
      refine pw_avE (l_k (l_i rfl l_0)) (H.mono (t_iE (fun z18 S17 H => ?_)))
      refine tw_asti (k := 10) (t := 1) (x := z18) hm rfl rfl (by decide) (by decide) rfl ?_
      refine tw_getr rfl ?_
      obtain ⟨h24, H⟩ := H
      refine f_leE (s := 2) (t := v2) rfl rfl (by constructor <;> decide) h24 H (fun H => ?_) (fun H => ?_)
      · obtain ⟨h23, H⟩ := H
        refine f_eqE (s := v2) (t := 4) rfl rfl h23 (by constructor <;> decide) H (fun H => ?_) (fun H => ?_)
        · refine tw_V ?_
          refine pw_avE (l_k (l_i rfl l_0)) (H.mono (t_iE (fun z22 S21 H => ?_)))
          refine pw_stE (l_i rfl (l_i rfl (l_k l_0))) ?_
          exact pw_eqL (g_k (g_k (g_i rfl (g_k (g_i rfl g_0))))) H
        · refine pw_stE (l_i rfl (l_i rfl (l_k l_0))) ?_
          exact pw_eqL (g_k (g_k (g_i rfl (g_k (g_i rfl g_0))))) H
      · refine pw_stE (l_i rfl (l_i rfl (l_k l_0))) ?_
        exact pw_eqL (g_k (g_k (g_i rfl (g_k (g_i rfl g_0))))) H
theorem t_X2_drawChange_155 {E : pw_E} {d : Nat} {w0 : pw_W} {m : Nat} {S : tw_S} {Post : pw_R → pw_W → Prop} (hm : pw_base E ≤ m) (v2 : Int) (v4 : Int) (u0 : Int) (u1 : Int) (k2 : Nat) (hk : (decide (1 < k2) && decide (k2 < 16)) = true) (H : ((0 : Int) ≤ u1 ∧ u1 < tw_len k2 ∧ (rI v2 ∧ if v2 = 2 then pw_Wp E m_X2_drawChange (d + 1) 172 [some (va_rf (some m)), none, some (.int (iI v2)), none, some (.int (iI v4))] [.int (iI 1), va_rf (some m)] (tw w0 m (tw_sa S k2 (Int.toNat u1) u0)) Post else (rI v2 ∧ if v2 = 3 then pw_Wp E m_X2_drawChange (d + 1) 172 [some (va_rf (some m)), none, some (.int (iI v2)), none, some (.int (iI v4))] [.int (iI 1), va_rf (some m)] (tw w0 m (tw_sa S k2 (Int.toNat u1) u0)) Post else pw_Wp E m_X2_drawChange (d + 1) 172 [some (va_rf (some m)), none, some (.int (iI v2)), none, some (.int (iI v4))] [.int (iI 0), va_rf (some m)] (tw w0 m (tw_sa S k2 (Int.toNat u1) u0)) Post)))) : pw_Wp E m_X2_drawChange (d + 1) 155 [some (va_rf (some m)), none, some (.int (iI v2)), none, some (.int (iI v4))] [.int (iI u0), .int (iI u1), va_rf (some (m + k2))] (tw w0 m S) Post := by
  refine s_X2_drawChange_155 (some m) (iI v2) (iI v4) (iI u0) (iI u1) (some (m + k2)) ?_
  obtain ⟨h1, h2, H⟩ := H
  refine tw_asti (k := k2) (t := u1) (x := u0) hm hk rfl h1 h2 rfl ?_
  obtain ⟨h4, H⟩ := H
  refine f_eqE (s := v2) (t := 2) rfl rfl h4 (by constructor <;> decide) H (fun H => ?_) (fun H => ?_)
  · refine pw_stE (l_i rfl (l_k l_0)) ?_
    exact pw_eqL (g_k (g_k (g_i rfl (g_k (g_i rfl g_0))))) H
  · obtain ⟨h3, H⟩ := H
    refine f_eqE (s := v2) (t := 3) rfl rfl h3 (by constructor <;> decide) H (fun H => ?_) (fun H => ?_)
    · refine pw_stE (l_i rfl (l_k l_0)) ?_
      exact pw_eqL (g_k (g_k (g_i rfl (g_k (g_i rfl g_0))))) H
    · refine pw_stE (l_i rfl (l_k l_0)) ?_
      exact pw_eqL (g_k (g_k (g_i rfl (g_k (g_i rfl g_0))))) H
theorem t_X2_drawChange_172 {E : pw_E} {d : Nat} {w0 : pw_W} {m : Nat} {S : tw_S} {Post : pw_R → pw_W → Prop} (hm : pw_base E ≤ m) (v2 : Int) (v4 : Int) (u0 : Int) (H : (rI u0 ∧ if u0 = 1 then pw_Cl E m_X2_wordOf d [va_rf (some m), .int (iI v4)] (tw w0 m (tw_sf S 21 u0)) (c_i (t_i w0 m (fun z2 S1 => (rI v2 ∧ if (2 : Int) ≤ v2 then (rI v2 ∧ if (4 : Int) ≤ v2 then pw_Cl E m_X2_makes d [va_rf (some m), .int (iI 2)] (tw w0 m (tw_sa S1 11 0 z2)) (c_v (t_u w0 m (fun S5 => Post (.inl none) (tw w0 m S5)))) else pw_Cl E m_X2_makes d [va_rf (some m), .int (iI 0)] (tw w0 m (tw_sa S1 11 0 z2)) (c_v (t_u w0 m (fun S6 => Post (.inl none) (tw w0 m S6))))) else pw_Cl E m_X2_makes d [va_rf (some m), .int (iI 1)] (tw w0 m (tw_sa S1 11 0 z2)) (c_v (t_u w0 m (fun S8 => Post (.inl none) (tw w0 m S8)))))))) else (rI v2 ∧ if (2 : Int) ≤ v2 then (rI v2 ∧ if (4 : Int) ≤ v2 then pw_Cl E m_X2_makes d [va_rf (some m), .int (iI 2)] (tw w0 m (tw_sa (tw_sf S 21 u0) 11 0 0)) (c_v (t_u w0 m (fun S12 => Post (.inl none) (tw w0 m S12)))) else pw_Cl E m_X2_makes d [va_rf (some m), .int (iI 0)] (tw w0 m (tw_sa (tw_sf S 21 u0) 11 0 0)) (c_v (t_u w0 m (fun S13 => Post (.inl none) (tw w0 m S13))))) else pw_Cl E m_X2_makes d [va_rf (some m), .int (iI 1)] (tw w0 m (tw_sa (tw_sf S 21 u0) 11 0 0)) (c_v (t_u w0 m (fun S15 => Post (.inl none) (tw w0 m S15))))))) : pw_Wp E m_X2_drawChange (d + 1) 172 [some (va_rf (some m)), none, some (.int (iI v2)), none, some (.int (iI v4))] [.int (iI u0), va_rf (some m)] (tw w0 m S) Post := by
  refine s_X2_drawChange_172 (some m) (iI v2) (iI v4) (iI u0) (some m) ?_
  refine tw_puti (x := u0) hm rfl rfl ?_
  refine tw_getr rfl ?_
  refine tw_geti rfl ?_
  obtain ⟨h17, H⟩ := H
  refine f_eqE (s := u0) (t := 1) rfl rfl h17 (by constructor <;> decide) H (fun H => ?_) (fun H => ?_)
  · refine tw_V ?_
    refine pw_avE (l_k (l_i rfl l_0)) (H.mono (t_iE (fun z2 S1 H => ?_)))
    refine tw_asti (k := 11) (t := 0) (x := z2) hm rfl rfl (by decide) (by decide) rfl ?_
    obtain ⟨h9, H⟩ := H
    refine f_leE (s := 2) (t := v2) rfl rfl (by constructor <;> decide) h9 H (fun H => ?_) (fun H => ?_)
    · obtain ⟨h7, H⟩ := H
      refine f_leE (s := 4) (t := v2) rfl rfl (by constructor <;> decide) h7 H (fun H => ?_) (fun H => ?_)
      · refine tw_V ?_
        refine pw_avE (l_k (l_i rfl l_0)) (H.mono (t_uE (fun S5 H => ?_)))
        exact H
      · refine tw_V ?_
        refine pw_avE (l_k (l_i rfl l_0)) (H.mono (t_uE (fun S6 H => ?_)))
        exact H
    · refine tw_V ?_
      refine pw_avE (l_k (l_i rfl l_0)) (H.mono (t_uE (fun S8 H => ?_)))
      exact H
  · refine tw_asti (k := 11) (t := 0) (x := 0) hm rfl rfl (by decide) (by decide) rfl ?_
    obtain ⟨h16, H⟩ := H
    refine f_leE (s := 2) (t := v2) rfl rfl (by constructor <;> decide) h16 H (fun H => ?_) (fun H => ?_)
    · obtain ⟨h14, H⟩ := H
      refine f_leE (s := 4) (t := v2) rfl rfl (by constructor <;> decide) h14 H (fun H => ?_) (fun H => ?_)
      · refine tw_V ?_
        refine pw_avE (l_k (l_i rfl l_0)) (H.mono (t_uE (fun S12 H => ?_)))
        exact H
      · refine tw_V ?_
        refine pw_avE (l_k (l_i rfl l_0)) (H.mono (t_uE (fun S13 H => ?_)))
        exact H
    · refine tw_V ?_
      refine pw_avE (l_k (l_i rfl l_0)) (H.mono (t_uE (fun S15 H => ?_)))
      exact H
theorem t_X2_drawn_0 {E : pw_E} {d : Nat} {w0 : pw_W} {m : Nat} {S : tw_S} {Post : pw_R → pw_W → Prop} (hm : pw_base E ≤ m) (v1 : Int) (v2 : Int) (v3 : Int) (v4 : Int) (v5 : Int) (H : pw_Cl E m_X2_in d [.int (iI v3), .int (iI 0), .int (iI 40)] (tw w0 m (tw_sf S 0 0)) (c_z (t_b w0 m (fun b2 S1 => (if b2 = true then pw_Cl E m_X2_hand d [va_rf (some m), .int (iI v1)] (tw w0 m S1) (c_z (t_b w0 m (fun b4 S3 => (if b4 = true then pw_Cl E m_X2_isDoc d [va_rf (some m), .int (iI v4)] (tw w0 m S3) (c_z (t_b w0 m (fun b6 S5 => (if b6 = true then pw_Wp E m_X2_drawn (d + 1) 42 [some (va_rf (some m)), none, none, some (.int (iI v3)), some (.int (iI v4)), some (.int (iI v5)), some (.int (iI 0))] [] (tw w0 m (tw_sf S5 35 v2)) Post else Post (.inl (some (.int (iI (-1))))) (tw w0 m S5))))) else Post (.inl (some (.int (iI (-1))))) (tw w0 m S3))))) else Post (.inl (some (.int (iI (-1))))) (tw w0 m S1)))))) : pw_Wp E m_X2_drawn (d + 1) 0 [some (va_rf (some m)), some (.int (iI v1)), some (.int (iI v2)), some (.int (iI v3)), some (.int (iI v4)), some (.int (iI v5)), none] [] (tw w0 m S) Post := by
  refine s_X2_drawn_0 (some m) (iI v1) (iI v2) (iI v3) (iI v4) (iI v5) ?_
  refine tw_puti (x := 0) hm rfl rfl ?_
  refine pw_avE (l_i rfl (l_i rfl (l_i rfl l_0))) (H.mono (t_bE (fun b2 S1 H => ?_)))
  refine f_bE H (fun H => ?_) (fun H => ?_)
  · exact c_pi rfl H
  · refine tw_V ?_
    refine pw_avE (l_k (l_i rfl l_0)) (H.mono (t_bE (fun b4 S3 H => ?_)))
    refine f_bE H (fun H => ?_) (fun H => ?_)
    · exact c_pi rfl H
    · refine tw_V ?_
      refine pw_avE (l_k (l_i rfl l_0)) (H.mono (t_bE (fun b6 S5 H => ?_)))
      refine f_bE H (fun H => ?_) (fun H => ?_)
      · exact c_pi rfl H
      · refine tw_puti (x := v2) hm rfl rfl ?_
        exact pw_eqL (g_k (g_k (g_k (g_i rfl (g_i rfl (g_i rfl (g_i rfl g_0))))))) H
theorem t_X2_drawn_42 {E : pw_E} {d : Nat} {w0 : pw_W} {m : Nat} {S : tw_S} {Post : pw_R → pw_W → Prop} (hm : pw_base E ≤ m) (v3 : Int) (v4 : Int) (v5 : Int) (v6 : Int) (H : (rI v3 ∧ rI v6 ∧ if v3 ≤ v6 then pw_Cl E m_X2_versions d [va_rf (some m), .int (iI v4)] (tw w0 m S) (c_i (t_i w0 m (fun z2 S1 => (rI v5 ∧ if v5 < 10 then (rI v5 ∧ if v5 = 0 then Post (.inl (some (.int (iI ((z2 - 1) + 1))))) (tw w0 m S1) else (rI v5 ∧ if v5 = 1 then pw_Cl E m_X2_longOf d [va_rf (some m), .int (iI v4), .int (iI (z2 - 1))] (tw w0 m S1) (c_i (t_i w0 m (fun z4 S3 => Post (.inl (some (.int (iI z4)))) (tw w0 m S3)))) else (rI v5 ∧ if v5 = 2 then pw_Cl E m_X2_tokensOf d [va_rf (some m), .int (iI v4)] (tw w0 m S1) (c_i (t_i w0 m (fun z6 S5 => Post (.inl (some (.int (iI z6)))) (tw w0 m S5)))) else Post (.inl (some (.int (iI (-1))))) (tw w0 m S1)))) else pw_Cl E m_X2_longOf d [va_rf (some m), .int (iI v4), .int (iI (z2 - 1))] (tw w0 m S1) (c_i (t_i w0 m (fun z11 S10 => (rI z11 ∧ rI (v5 - 10) ∧ if z11 ≤ (v5 - 10) then Post (.inl (some (.int (iI (-1))))) (tw w0 m S10) else pw_Cl E m_X2_wordAt d [va_rf (some m), .int (iI v4), .int (iI (z2 - 1)), .int (iI (v5 - 10))] (tw w0 m S10) (c_i (t_i w0 m (fun z13 S12 => Post (.inl (some (.int (iI z13)))) (tw w0 m S12)))))))))))) else pw_Cl E m_X2_drawChange d [va_rf (some m)] (tw w0 m S) (c_v (t_u w0 m (fun S17 => pw_Wp E m_X2_drawn (d + 1) 42 [some (va_rf (some m)), none, none, some (.int (iI v3)), some (.int (iI v4)), some (.int (iI v5)), some (.int (iI (v6 + 1)))] [] (tw w0 m S17) Post))))) : pw_Wp E m_X2_drawn (d + 1) 42 [some (va_rf (some m)), none, none, some (.int (iI v3)), some (.int (iI v4)), some (.int (iI v5)), some (.int (iI v6))] [] (tw w0 m S) Post := by
  refine s_X2_drawn_42 (some m) (iI v3) (iI v4) (iI v5) (iI v6) ?_
  obtain ⟨h18, H⟩ := H
  obtain ⟨h19, H⟩ := H
  refine f_leE (s := v3) (t := v6) rfl rfl h18 h19 H (fun H => ?_) (fun H => ?_)
  · refine tw_V ?_
    refine pw_avE (l_k (l_i rfl l_0)) (H.mono (t_iE (fun z2 S1 H => ?_)))
    obtain ⟨h16, H⟩ := H
    refine f_ltE (s := v5) (t := 10) rfl rfl h16 (by constructor <;> decide) H (fun H => ?_) (fun H => ?_)
    · obtain ⟨h9, H⟩ := H
      refine f_eqE (s := v5) (t := 0) rfl rfl h9 (by constructor <;> decide) H (fun H => ?_) (fun H => ?_)
      · exact c_pi (iI_addE (iI_subE rfl rfl) rfl) H
      · obtain ⟨h8, H⟩ := H
        refine f_eqE (s := v5) (t := 1) rfl rfl h8 (by constructor <;> decide) H (fun H => ?_) (fun H => ?_)
        · refine tw_V ?_
          refine pw_avE (l_k (l_i rfl (l_i (iI_subE rfl rfl) l_0))) (H.mono (t_iE (fun z4 S3 H => ?_)))
          exact c_pi rfl H
        · obtain ⟨h7, H⟩ := H
          refine f_eqE (s := v5) (t := 2) rfl rfl h7 (by constructor <;> decide) H (fun H => ?_) (fun H => ?_)
          · refine tw_V ?_
            refine pw_avE (l_k (l_i rfl l_0)) (H.mono (t_iE (fun z6 S5 H => ?_)))
            exact c_pi rfl H
          · exact c_pi rfl H
    · refine tw_V ?_
      refine pw_avE (l_k (l_i rfl (l_i (iI_subE rfl rfl) l_0))) (H.mono (t_iE (fun z11 S10 H => ?_)))
      obtain ⟨h14, H⟩ := H
      obtain ⟨h15, H⟩ := H
      refine f_leE (s := z11) (t := (v5 - 10)) rfl (iI_subE rfl rfl) h14 h15 H (fun H => ?_) (fun H => ?_)
      · exact c_pi rfl H
      · refine tw_V ?_
        refine pw_avE (l_k (l_i rfl (l_i (iI_subE rfl rfl) (l_i (iI_subE rfl rfl) l_0)))) (H.mono (t_iE (fun z13 S12 H => ?_)))
        exact c_pi rfl H
  · refine tw_V ?_
    refine pw_avE (l_k l_0) (H.mono (t_uE (fun S17 H => ?_)))
    exact pw_eqL (g_k (g_k (g_k (g_i rfl (g_i rfl (g_i rfl (g_i (iI_addE rfl rfl) g_0))))))) H
theorem t_X2_end_0 {E : pw_E} {d : Nat} {w0 : pw_W} {m : Nat} {S : tw_S} {Post : pw_R → pw_W → Prop} (hm : pw_base E ≤ m) (v1 : Int) (H : pw_Cl E m_X2_in d [.int (iI v1), .int (iI 0), .int (iI (S.2.2 2 0))] (tw w0 m (tw_sf S 0 0)) (c_z (t_b w0 m (fun b4 S3 => (if b4 = true then Post (.inl (some (.int (iI v1)))) (tw w0 m (tw_sa S3 2 0 v1)) else Post (.inl (some (.int (iI (-1))))) (tw w0 m S3)))))) : pw_Wp E m_X2_end (d + 1) 0 [some (va_rf (some m)), some (.int (iI v1))] [] (tw w0 m S) Post := by
  refine s_X2_end_0 (some m) (iI v1) ?_
  refine tw_puti (x := 0) hm rfl rfl ?_
  refine tw_getr rfl ?_
  refine tw_aldi (k := 2) (t := 0) rfl rfl (by decide) (by decide) ?_
  refine pw_avE (l_i rfl (l_i rfl (l_i rfl l_0))) (H.mono (t_bE (fun b4 S3 H => ?_)))
  refine f_bE H (fun H => ?_) (fun H => ?_)
  · exact c_pi rfl H
  · refine tw_getr rfl ?_
    refine tw_asti (k := 2) (t := 0) (x := v1) hm rfl rfl (by decide) (by decide) rfl ?_
    exact c_pi rfl H
theorem t_X2_fact_0 {E : pw_E} {d : Nat} {w0 : pw_W} {m : Nat} {S : tw_S} {Post : pw_R → pw_W → Prop} (hm : pw_base E ≤ m) (v1 : Int) (v2 : Int) (v3 : Int) (H : pw_Cl E m_X2_hasHunt d [va_rf (some m), .int (iI v1)] (tw w0 m (tw_sf S 0 0)) (c_z (t_b w0 m (fun b2 S1 => (if b2 = true then (rI v2 ∧ if v2 = (-1) then (rI v3 ∧ if v3 = 0 then pw_Cl E m_X2_facts d [va_rf (some m)] (tw w0 m S1) (c_i (t_i w0 m (fun z4 S3 => Post (.inl (some (.int (iI z4)))) (tw w0 m S3)))) else Post (.inl (some (.int (iI (-2))))) (tw w0 m S1)) else pw_Cl E m_X2_facts d [va_rf (some m)] (tw w0 m S1) (c_i (t_i w0 m (fun z7 S6 => pw_Cl E m_X2_in d [.int (iI v2), .int (iI 0), .int (iI (z7 - 1))] (tw w0 m S6) (c_z (t_b w0 m (fun b9 S8 => (if b9 = true then pw_Cl E m_X2_in d [.int (iI v3), .int (iI 0), .int (iI 2)] (tw w0 m S8) (c_z (t_b w0 m (fun b11 S10 => (if b11 = true then pw_Cl E m_X2_factOf d [va_rf (some m), .int (iI v2), .int (iI v3)] (tw w0 m S10) (c_i (t_i w0 m (fun z13 S12 => Post (.inl (some (.int (iI z13)))) (tw w0 m S12)))) else Post (.inl (some (.int (iI (-2))))) (tw w0 m S10))))) else Post (.inl (some (.int (iI (-2))))) (tw w0 m S8))))))))) else Post (.inl (some (.int (iI (-2))))) (tw w0 m S1)))))) : pw_Wp E m_X2_fact (d + 1) 0 [some (va_rf (some m)), some (.int (iI v1)), some (.int (iI v2)), some (.int (iI v3))] [] (tw w0 m S) Post := by
  refine s_X2_fact_0 (some m) (iI v1) (iI v2) (iI v3) ?_
  refine tw_puti (x := 0) hm rfl rfl ?_
  refine tw_V ?_
  refine pw_avE (l_k (l_i rfl l_0)) (H.mono (t_bE (fun b2 S1 H => ?_)))
  refine f_bE H (fun H => ?_) (fun H => ?_)
  · exact c_pi rfl H
  · obtain ⟨h14, H⟩ := H
    refine f_eqE (s := v2) (t := (-1)) rfl rfl h14 (by constructor <;> decide) H (fun H => ?_) (fun H => ?_)
    · obtain ⟨h5, H⟩ := H
      refine f_eqE (s := v3) (t := 0) rfl rfl h5 (by constructor <;> decide) H (fun H => ?_) (fun H => ?_)
      · refine tw_V ?_
        refine pw_avE (l_k l_0) (H.mono (t_iE (fun z4 S3 H => ?_)))
        exact c_pi rfl H
      · exact c_pi rfl H
    · refine tw_V ?_
      refine pw_avE (l_k l_0) (H.mono (t_iE (fun z7 S6 H => ?_)))
      refine pw_avE (l_i rfl (l_i rfl (l_i (iI_subE rfl rfl) l_0))) (H.mono (t_bE (fun b9 S8 H => ?_)))
      refine f_bE H (fun H => ?_) (fun H => ?_)
      · exact c_pi rfl H
      · refine pw_avE (l_i rfl (l_i rfl (l_i rfl l_0))) (H.mono (t_bE (fun b11 S10 H => ?_)))
        refine f_bE H (fun H => ?_) (fun H => ?_)
        · exact c_pi rfl H
        · refine tw_V ?_
          refine pw_avE (l_k (l_i rfl (l_i rfl l_0))) (H.mono (t_iE (fun z13 S12 H => ?_)))
          exact c_pi rfl H
theorem t_X2_factOf_0 {E : pw_E} {d : Nat} {w0 : pw_W} {m : Nat} {S : tw_S} {Post : pw_R → pw_W → Prop} (hm : pw_base E ≤ m) (v1 : Int) (v2 : Int) (H : ((0 : Int) ≤ ((((25 * (S.1 30)) + 1) + (3 * v1)) + v2) ∧ ((((25 * (S.1 30)) + 1) + (3 * v1)) + v2) < 200 ∧ Post (.inl (some (.int (iI (S.2.2 8 (Int.toNat ((((25 * (S.1 30)) + 1) + (3 * v1)) + v2))))))) (tw w0 m S))) : pw_Wp E m_X2_factOf (d + 1) 0 [some (va_rf (some m)), some (.int (iI v1)), some (.int (iI v2))] [] (tw w0 m S) Post := by
  refine s_X2_factOf_0 (some m) (iI v1) (iI v2) ?_
  refine tw_getr rfl ?_
  refine tw_geti rfl ?_
  obtain ⟨h1, h2, H⟩ := H
  refine tw_aldi (k := 8) (t := ((((25 * (S.1 30)) + 1) + (3 * v1)) + v2)) rfl (iI_addE (iI_addE (iI_addE (iI_mulE rfl rfl) rfl) (iI_mulE rfl rfl)) rfl) h1 h2 ?_
  exact c_pi rfl H
theorem t_X2_facts_0 {E : pw_E} {d : Nat} {w0 : pw_W} {m : Nat} {S : tw_S} {Post : pw_R → pw_W → Prop} (hm : pw_base E ≤ m)  (H : ((0 : Int) ≤ (25 * (S.1 30)) ∧ (25 * (S.1 30)) < 200 ∧ Post (.inl (some (.int (iI (S.2.2 8 (Int.toNat (25 * (S.1 30)))))))) (tw w0 m S))) : pw_Wp E m_X2_facts (d + 1) 0 [some (va_rf (some m))] [] (tw w0 m S) Post := by
  refine s_X2_facts_0 (some m) ?_
  refine tw_getr rfl ?_
  refine tw_geti rfl ?_
  obtain ⟨h1, h2, H⟩ := H
  refine tw_aldi (k := 8) (t := (25 * (S.1 30))) rfl (iI_mulE rfl rfl) h1 h2 ?_
  exact c_pi rfl H
theorem t_X2_fails_0 {E : pw_E} {d : Nat} {w0 : pw_W} {m : Nat} {S : tw_S} {Post : pw_R → pw_W → Prop} (hm : pw_base E ≤ m)  (H : Post (.inl (some (.int (iI 0)))) (tw w0 m (tw_sf S 15 (S.1 11)))) : pw_Wp E m_X2_fails (d + 1) 0 [some (va_rf (some m))] [] (tw w0 m S) Post := by
  refine s_X2_fails_0 (some m) ?_
  refine tw_geti rfl ?_
  refine tw_puti (x := (S.1 11)) hm rfl rfl ?_
  exact c_pi rfl H
theorem t_X2_fault_0 {E : pw_E} {d : Nat} {w0 : pw_W} {m : Nat} {S : tw_S} {Post : pw_R → pw_W → Prop} (hm : pw_base E ≤ m) (v1 : Int) (H : (rI v1 ∧ if v1 = 0 then Post (.inl (some (.int (iI (S.2.2 3 0))))) (tw w0 m (tw_sf S 0 0)) else (rI v1 ∧ if v1 = 1 then Post (.inl (some (.int (iI (S.2.2 4 0))))) (tw w0 m (tw_sf S 0 0)) else Post (.inl (some (.int (iI (-1))))) (tw w0 m (tw_sf S 0 0))))) : pw_Wp E m_X2_fault (d + 1) 0 [some (va_rf (some m)), some (.int (iI v1))] [] (tw w0 m S) Post := by
  refine s_X2_fault_0 (some m) (iI v1) ?_
  refine tw_puti (x := 0) hm rfl rfl ?_
  obtain ⟨h6, H⟩ := H
  refine f_eqE (s := v1) (t := 0) rfl rfl h6 (by constructor <;> decide) H (fun H => ?_) (fun H => ?_)
  · refine tw_getr rfl ?_
    refine tw_aldi (k := 3) (t := 0) rfl rfl (by decide) (by decide) ?_
    exact c_pi rfl H
  · obtain ⟨h5, H⟩ := H
    refine f_eqE (s := v1) (t := 1) rfl rfl h5 (by constructor <;> decide) H (fun H => ?_) (fun H => ?_)
    · refine tw_getr rfl ?_
      refine tw_aldi (k := 4) (t := 0) rfl rfl (by decide) (by decide) ?_
      exact c_pi rfl H
    · exact c_pi rfl H
theorem t_X2_feed_0 {E : pw_E} {d : Nat} {w0 : pw_W} {m : Nat} {S : tw_S} {Post : pw_R → pw_W → Prop} (hm : pw_base E ≤ m) (v1 : Int) (v2 : Int) (v3 : Int) (v4 : Int) (v5 : Int) (H : (rI ((S.2.2 2 0) + 20) ∧ if ((S.2.2 2 0) + 20) ≤ 600 then pw_Cl E m_X2_four d [va_rf (some m), .int (iI v1)] (tw w0 m (tw_sf S 0 0)) (c_v (t_u w0 m (fun S3 => pw_Cl E m_X2_four d [va_rf (some m), .int (iI v2)] (tw w0 m S3) (c_v (t_u w0 m (fun S4 => pw_Cl E m_X2_four d [va_rf (some m), .int (iI v3)] (tw w0 m S4) (c_v (t_u w0 m (fun S5 => pw_Cl E m_X2_four d [va_rf (some m), .int (iI v4)] (tw w0 m S5) (c_v (t_u w0 m (fun S6 => pw_Cl E m_X2_four d [va_rf (some m), .int (iI v5)] (tw w0 m S6) (c_v (t_u w0 m (fun S7 => Post (.inl (some (.int (iI (S7.2.2 2 0))))) (tw w0 m S7)))))))))))))))) else Post (.inl (some (.int (iI (-1))))) (tw w0 m (tw_sf S 0 0)))) : pw_Wp E m_X2_feed (d + 1) 0 [some (va_rf (some m)), some (.int (iI v1)), some (.int (iI v2)), some (.int (iI v3)), some (.int (iI v4)), some (.int (iI v5))] [] (tw w0 m S) Post := by
  refine s_X2_feed_0 (some m) (iI v1) (iI v2) (iI v3) (iI v4) (iI v5) ?_
  refine tw_puti (x := 0) hm rfl rfl ?_
  refine tw_getr rfl ?_
  refine tw_aldi (k := 2) (t := 0) rfl rfl (by decide) (by decide) ?_
  obtain ⟨h10, H⟩ := H
  refine f_leE (s := ((S.2.2 2 0) + 20)) (t := 600) (iI_addE rfl rfl) rfl h10 (by constructor <;> decide) H (fun H => ?_) (fun H => ?_)
  · refine tw_V ?_
    refine pw_avE (l_k (l_i rfl l_0)) (H.mono (t_uE (fun S3 H => ?_)))
    refine tw_V ?_
    refine pw_avE (l_k (l_i rfl l_0)) (H.mono (t_uE (fun S4 H => ?_)))
    refine tw_V ?_
    refine pw_avE (l_k (l_i rfl l_0)) (H.mono (t_uE (fun S5 H => ?_)))
    refine tw_V ?_
    refine pw_avE (l_k (l_i rfl l_0)) (H.mono (t_uE (fun S6 H => ?_)))
    refine tw_V ?_
    refine pw_avE (l_k (l_i rfl l_0)) (H.mono (t_uE (fun S7 H => ?_)))
    refine tw_getr rfl ?_
    refine tw_aldi (k := 2) (t := 0) rfl rfl (by decide) (by decide) ?_
    exact c_pi rfl H
  · exact c_pi rfl H
theorem t_X2_findWords_0 {E : pw_E} {d : Nat} {w0 : pw_W} {m : Nat} {S : tw_S} {Post : pw_R → pw_W → Prop} (hm : pw_base E ≤ m) (v1 : Int) (H : pw_Wp E m_X2_findWords (d + 1) 18 [some (va_rf (some m)), some (.int (iI v1)), some (.int (iI 0))] [] (tw w0 m (tw_sf (tw_sf (tw_sf S 31 0) 32 (-2)) 33 0)) Post) : pw_Wp E m_X2_findWords (d + 1) 0 [some (va_rf (some m)), some (.int (iI v1)), none] [] (tw w0 m S) Post := by
  refine s_X2_findWords_0 (some m) (iI v1) ?_
  refine tw_puti (x := 0) hm rfl rfl ?_
  refine tw_puti (x := (-2)) hm rfl rfl ?_
  refine tw_puti (x := 0) hm rfl rfl ?_
  exact pw_eqL (g_k (g_i rfl (g_i rfl g_0))) H
theorem t_X2_findWords_18 {E : pw_E} {d : Nat} {w0 : pw_W} {m : Nat} {S : tw_S} {Post : pw_R → pw_W → Prop} (hm : pw_base E ≤ m) (v1 : Int) (v2 : Int) (H : (rI v2 ∧ if (40 : Int) ≤ v2 then pw_Cl E m_X2_layWords d [va_rf (some m)] (tw w0 m S) (c_v (t_u w0 m (fun S1 => pw_Wp E m_X2_findWords (d + 1) 43 [some (va_rf (some m)), some (.int (iI v1)), some (.int (iI 0))] [] (tw w0 m S1) Post))) else ((0 : Int) ≤ v2 ∧ v2 < 40 ∧ pw_Wp E m_X2_findWords (d + 1) 18 [some (va_rf (some m)), some (.int (iI v1)), some (.int (iI (v2 + 1)))] [] (tw w0 m (tw_sa S 15 (Int.toNat v2) 0)) Post))) : pw_Wp E m_X2_findWords (d + 1) 18 [some (va_rf (some m)), some (.int (iI v1)), some (.int (iI v2))] [] (tw w0 m S) Post := by
  refine s_X2_findWords_18 (some m) (iI v1) (iI v2) ?_
  obtain ⟨h4, H⟩ := H
  refine f_leE (s := 40) (t := v2) rfl rfl (by constructor <;> decide) h4 H (fun H => ?_) (fun H => ?_)
  · refine tw_V ?_
    refine pw_avE (l_k l_0) (H.mono (t_uE (fun S1 H => ?_)))
    exact pw_eqL (g_k (g_i rfl (g_i rfl g_0))) H
  · refine tw_getr rfl ?_
    obtain ⟨h2, h3, H⟩ := H
    refine tw_asti (k := 15) (t := v2) (x := 0) hm rfl rfl h2 h3 rfl ?_
    exact pw_eqL (g_k (g_i rfl (g_i (iI_addE rfl rfl) g_0))) H
theorem t_X2_findWords_43 {E : pw_E} {d : Nat} {w0 : pw_W} {m : Nat} {S : tw_S} {Post : pw_R → pw_W → Prop} (hm : pw_base E ≤ m) (v1 : Int) (v2 : Int) (H : (rI (S.1 25) ∧ rI v2 ∧ if (S.1 25) ≤ v2 then Post (.inl none) (tw w0 m S) else ((0 : Int) ≤ v2 ∧ v2 < 320 ∧ pw_Cl E m_X2_isSo d [va_rf (some m), .int (iI (S.2.2 12 (Int.toNat v2)))] (tw w0 m S) (c_z (t_b w0 m (fun b4 S3 => (if b4 = true then ((0 : Int) ≤ v2 ∧ v2 < 320 ∧ pw_Cl E m_X2_noteFit d [va_rf (some m), .int (iI (S3.2.2 12 (Int.toNat v2))), .int (iI v1)] (tw w0 m S3) (c_v (t_u w0 m (fun S7 => pw_Wp E m_X2_findWords (d + 1) 43 [some (va_rf (some m)), some (.int (iI v1)), some (.int (iI (v2 + 1)))] [] (tw w0 m S7) Post)))) else pw_Wp E m_X2_findWords (d + 1) 43 [some (va_rf (some m)), some (.int (iI v1)), some (.int (iI (v2 + 1)))] [] (tw w0 m S3) Post))))))) : pw_Wp E m_X2_findWords (d + 1) 43 [some (va_rf (some m)), some (.int (iI v1)), some (.int (iI v2))] [] (tw w0 m S) Post := by
  refine s_X2_findWords_43 (some m) (iI v1) (iI v2) ?_
  refine tw_geti rfl ?_
  obtain ⟨h8, H⟩ := H
  obtain ⟨h9, H⟩ := H
  refine f_leE (s := (S.1 25)) (t := v2) rfl rfl h8 h9 H (fun H => ?_) (fun H => ?_)
  · exact H
  · refine tw_getr rfl ?_
    obtain ⟨h1, h2, H⟩ := H
    refine tw_aldi (k := 12) (t := v2) rfl rfl h1 h2 ?_
    refine tw_V ?_
    refine pw_avE (l_k (l_i rfl l_0)) (H.mono (t_bE (fun b4 S3 H => ?_)))
    refine f_bE H (fun H => ?_) (fun H => ?_)
    · exact pw_eqL (g_k (g_i rfl (g_i (iI_addE rfl rfl) g_0))) H
    · refine tw_getr rfl ?_
      obtain ⟨h5, h6, H⟩ := H
      refine tw_aldi (k := 12) (t := v2) rfl rfl h5 h6 ?_
      refine tw_V ?_
      refine pw_avE (l_k (l_i rfl (l_i rfl l_0))) (H.mono (t_uE (fun S7 H => ?_)))
      exact pw_eqL (g_k (g_i rfl (g_i (iI_addE rfl rfl) g_0))) H
theorem t_X2_firstIn_0 {E : pw_E} {d : Nat} {w0 : pw_W} {m : Nat} {S : tw_S} {Post : pw_R → pw_W → Prop} (hm : pw_base E ≤ m) (v0 : Int) (H : pw_Wp E m_X2_firstIn (d + 1) 2 [some (.int (iI v0)), some (.int (iI 0))] [] (tw w0 m S) Post) : pw_Wp E m_X2_firstIn (d + 1) 0 [some (.int (iI v0)), none] [] (tw w0 m S) Post := by
  refine s_X2_firstIn_0 (iI v0) ?_
  exact pw_eqL (g_i rfl (g_i rfl g_0)) H
theorem t_X2_firstIn_2 {E : pw_E} {d : Nat} {w0 : pw_W} {m : Nat} {S : tw_S} {Post : pw_R → pw_W → Prop} (hm : pw_base E ≤ m) (v0 : Int) (v1 : Int) (H : pw_Cl E m_X2_has d [.int (iI v0), .int (iI v1)] (tw w0 m S) (c_z (t_b w0 m (fun b2 S1 => (if b2 = true then Post (.inl (some (.int (iI v1)))) (tw w0 m S1) else pw_Wp E m_X2_firstIn (d + 1) 2 [some (.int (iI v0)), some (.int (iI (v1 + 1)))] [] (tw w0 m S1) Post))))) : pw_Wp E m_X2_firstIn (d + 1) 2 [some (.int (iI v0)), some (.int (iI v1))] [] (tw w0 m S) Post := by
  refine s_X2_firstIn_2 (iI v0) (iI v1) ?_
  refine pw_avE (l_i rfl (l_i rfl l_0)) (H.mono (t_bE (fun b2 S1 H => ?_)))
  refine f_bE H (fun H => ?_) (fun H => ?_)
  · exact pw_eqL (g_i rfl (g_i (iI_addE rfl rfl) g_0)) H
  · exact c_pi rfl H
theorem t_X2_firstToken_0 {E : pw_E} {d : Nat} {w0 : pw_W} {m : Nat} {S : tw_S} {Post : pw_R → pw_W → Prop} (hm : pw_base E ≤ m) (v1 : Int) (H : pw_Wp E m_X2_firstToken (d + 1) 2 [some (va_rf (some m)), some (.int (iI v1)), some (.int (iI 0))] [] (tw w0 m S) Post) : pw_Wp E m_X2_firstToken (d + 1) 0 [some (va_rf (some m)), some (.int (iI v1)), none] [] (tw w0 m S) Post := by
  refine s_X2_firstToken_0 (some m) (iI v1) ?_
  exact pw_eqL (g_k (g_i rfl (g_i rfl g_0))) H
theorem t_X2_firstToken_2 {E : pw_E} {d : Nat} {w0 : pw_W} {m : Nat} {S : tw_S} {Post : pw_R → pw_W → Prop} (hm : pw_base E ≤ m) (v1 : Int) (v2 : Int) (H : (rI (S.2.2 9 5) ∧ rI v2 ∧ if (S.2.2 9 5) ≤ v2 then Post (.inl (some (.int (iI (-1))))) (tw w0 m S) else ((0 : Int) ≤ (1206 + v2) ∧ (1206 + v2) < 1526 ∧ (rI (S.2.2 9 (Int.toNat (1206 + v2))) ∧ rI v1 ∧ if (S.2.2 9 (Int.toNat (1206 + v2))) = v1 then Post (.inl (some (.int (iI v2)))) (tw w0 m S) else pw_Wp E m_X2_firstToken (d + 1) 2 [some (va_rf (some m)), some (.int (iI v1)), some (.int (iI (v2 + 1)))] [] (tw w0 m S) Post)))) : pw_Wp E m_X2_firstToken (d + 1) 2 [some (va_rf (some m)), some (.int (iI v1)), some (.int (iI v2))] [] (tw w0 m S) Post := by
  refine s_X2_firstToken_2 (some m) (iI v1) (iI v2) ?_
  refine tw_getr rfl ?_
  refine tw_aldi (k := 9) (t := 5) rfl rfl (by decide) (by decide) ?_
  obtain ⟨h7, H⟩ := H
  obtain ⟨h8, H⟩ := H
  refine f_leE (s := (S.2.2 9 5)) (t := v2) rfl rfl h7 h8 H (fun H => ?_) (fun H => ?_)
  · exact c_pi rfl H
  · refine tw_getr rfl ?_
    obtain ⟨h3, h4, H⟩ := H
    refine tw_aldi (k := 9) (t := (1206 + v2)) rfl (iI_addE rfl rfl) h3 h4 ?_
    obtain ⟨h5, H⟩ := H
    obtain ⟨h6, H⟩ := H
    refine f_eqE (s := (S.2.2 9 (Int.toNat (1206 + v2)))) (t := v1) rfl rfl h5 h6 H (fun H => ?_) (fun H => ?_)
    · exact c_pi rfl H
    · exact pw_eqL (g_k (g_i rfl (g_i (iI_addE rfl rfl) g_0))) H
theorem t_X2_fits_0 {E : pw_E} {d : Nat} {w0 : pw_W} {m : Nat} {S : tw_S} {Post : pw_R → pw_W → Prop} (hm : pw_base E ≤ m) (v1 : Int) (v2 : Int) (v3 : Int) (H : pw_Cl E m_X2_hasHunt d [va_rf (some m), .int (iI v2)] (tw w0 m (tw_sf S 0 0)) (c_z (t_b w0 m (fun b2 S1 => (if b2 = true then pw_Cl E m_X2_hand d [va_rf (some m), .int (iI v1)] (tw w0 m S1) (c_z (t_b w0 m (fun b4 S3 => (if b4 = true then pw_Cl E m_X2_findWords d [va_rf (some m), .int (iI (v3 - 10))] (tw w0 m S3) (c_v (t_u w0 m (fun S5 => (rI v3 ∧ if v3 < 10 then (rI v3 ∧ if v3 = 0 then Post (.inl (some (.int (iI (S5.1 31))))) (tw w0 m S5) else (rI v3 ∧ if v3 = 1 then pw_Cl E m_X2_sureLetter d [va_rf (some m)] (tw w0 m S5) (c_i (t_i w0 m (fun z7 S6 => Post (.inl (some (.int (iI z7)))) (tw w0 m S6)))) else (rI v3 ∧ if v3 = 2 then pw_Cl E m_X2_askWhere d [va_rf (some m)] (tw w0 m S5) (c_i (t_i w0 m (fun z9 S8 => Post (.inl (some (.int (iI z9)))) (tw w0 m S8)))) else Post (.inl (some (.int (iI (-2))))) (tw w0 m S5)))) else Post (.inl (some (.int (iI (S5.1 32))))) (tw w0 m S5))))) else Post (.inl (some (.int (iI (-2))))) (tw w0 m S3))))) else Post (.inl (some (.int (iI (-2))))) (tw w0 m S1)))))) : pw_Wp E m_X2_fits (d + 1) 0 [some (va_rf (some m)), some (.int (iI v1)), some (.int (iI v2)), some (.int (iI v3))] [] (tw w0 m S) Post := by
  refine s_X2_fits_0 (some m) (iI v1) (iI v2) (iI v3) ?_
  refine tw_puti (x := 0) hm rfl rfl ?_
  refine tw_V ?_
  refine pw_avE (l_k (l_i rfl l_0)) (H.mono (t_bE (fun b2 S1 H => ?_)))
  refine f_bE H (fun H => ?_) (fun H => ?_)
  · exact c_pi rfl H
  · refine tw_V ?_
    refine pw_avE (l_k (l_i rfl l_0)) (H.mono (t_bE (fun b4 S3 H => ?_)))
    refine f_bE H (fun H => ?_) (fun H => ?_)
    · exact c_pi rfl H
    · refine tw_V ?_
      refine pw_avE (l_k (l_i (iI_subE rfl rfl) l_0)) (H.mono (t_uE (fun S5 H => ?_)))
      obtain ⟨h13, H⟩ := H
      refine f_ltE (s := v3) (t := 10) rfl rfl h13 (by constructor <;> decide) H (fun H => ?_) (fun H => ?_)
      · obtain ⟨h12, H⟩ := H
        refine f_eqE (s := v3) (t := 0) rfl rfl h12 (by constructor <;> decide) H (fun H => ?_) (fun H => ?_)
        · refine tw_geti rfl ?_
          exact c_pi rfl H
        · obtain ⟨h11, H⟩ := H
          refine f_eqE (s := v3) (t := 1) rfl rfl h11 (by constructor <;> decide) H (fun H => ?_) (fun H => ?_)
          · refine tw_V ?_
            refine pw_avE (l_k l_0) (H.mono (t_iE (fun z7 S6 H => ?_)))
            exact c_pi rfl H
          · obtain ⟨h10, H⟩ := H
            refine f_eqE (s := v3) (t := 2) rfl rfl h10 (by constructor <;> decide) H (fun H => ?_) (fun H => ?_)
            · refine tw_V ?_
              refine pw_avE (l_k l_0) (H.mono (t_iE (fun z9 S8 H => ?_)))
              exact c_pi rfl H
            · exact c_pi rfl H
      · refine tw_geti rfl ?_
        exact c_pi rfl H
theorem t_X2_found_0 {E : pw_E} {d : Nat} {w0 : pw_W} {m : Nat} {S : tw_S} {Post : pw_R → pw_W → Prop} (hm : pw_base E ≤ m) (v1 : Int) (v2 : Int) (v3 : Int) (v4 : Int) (H : pw_Cl E m_X2_layHeld d [va_rf (some m), .int (iI v1), .int (iI v2)] (tw w0 m (tw_sf S 0 0)) (c_z (t_b w0 m (fun b2 S1 => (if b2 = true then pw_Cl E m_X2_isAsking d [va_rf (some m), .int (iI v3)] (tw w0 m S1) (c_z (t_b w0 m (fun b4 S3 => (if b4 = true then (rI v4 ∧ if (0 : Int) ≤ v4 then (rI v4 ∧ if v4 < 100 then (rI v4 ∧ if v4 < 10 then (rI v4 ∧ if v4 = 0 then (rI v4 ∧ if v4 = 1 then pw_Cl E m_X2_docsBy d [va_rf (some m), .int (iI v3), .int (iI 1)] (tw w0 m S3) (c_i (t_i w0 m (fun z6 S5 => Post (.inl (some (.int (iI z6)))) (tw w0 m S5)))) else pw_Cl E m_X2_docsBy d [va_rf (some m), .int (iI v3), .int (iI 0)] (tw w0 m S3) (c_i (t_i w0 m (fun z8 S7 => Post (.inl (some (.int (iI z8)))) (tw w0 m S7))))) else (rI v4 ∧ if v4 = 1 then (rI v4 ∧ if v4 = 1 then pw_Cl E m_X2_docsBy d [va_rf (some m), .int (iI v3), .int (iI 1)] (tw w0 m S3) (c_i (t_i w0 m (fun z11 S10 => Post (.inl (some (.int (iI z11)))) (tw w0 m S10)))) else pw_Cl E m_X2_docsBy d [va_rf (some m), .int (iI v3), .int (iI 0)] (tw w0 m S3) (c_i (t_i w0 m (fun z13 S12 => Post (.inl (some (.int (iI z13)))) (tw w0 m S12))))) else (rI v4 ∧ if v4 = 2 then pw_Cl E m_X2_changes d [va_rf (some m), .int (iI v3), .int (iI (-1))] (tw w0 m S3) (c_i (t_i w0 m (fun z16 S15 => Post (.inl (some (.int (iI z16)))) (tw w0 m S15)))) else (rI v4 ∧ if v4 = 3 then pw_Cl E m_X2_versionsBy d [va_rf (some m), .int (iI v3)] (tw w0 m S3) (c_i (t_i w0 m (fun z18 S17 => Post (.inl (some (.int (iI z18)))) (tw w0 m S17)))) else Post (.inl (some (.int (iI (-1))))) (tw w0 m S3))))) else pw_Cl E m_X2_rank d [va_rf (some m), .int (iI v3), .int (iI (v4 - 10))] (tw w0 m S3) (c_i (t_i w0 m (fun z24 S23 => Post (.inl (some (.int (iI z24)))) (tw w0 m S23))))) else (rI v4 ∧ if (200 : Int) ≤ v4 then pw_Cl E m_X2_changes d [va_rf (some m), .int (iI v3), .int (iI (v4 - 200))] (tw w0 m S3) (c_i (t_i w0 m (fun z27 S26 => Post (.inl (some (.int (iI z27)))) (tw w0 m S26)))) else pw_Cl E m_X2_asOf d [va_rf (some m), .int (iI v3), .int (iI (v4 - 100))] (tw w0 m S3) (c_i (t_i w0 m (fun z29 S28 => Post (.inl (some (.int (iI z29)))) (tw w0 m S28)))))) else Post (.inl (some (.int (iI (-1))))) (tw w0 m S3)) else Post (.inl (some (.int (iI (-1))))) (tw w0 m S3))))) else Post (.inl (some (.int (iI (-1))))) (tw w0 m S1)))))) : pw_Wp E m_X2_found (d + 1) 0 [some (va_rf (some m)), some (.int (iI v1)), some (.int (iI v2)), some (.int (iI v3)), some (.int (iI v4))] [] (tw w0 m S) Post := by
  refine s_X2_found_0 (some m) (iI v1) (iI v2) (iI v3) (iI v4) ?_
  refine tw_puti (x := 0) hm rfl rfl ?_
  refine tw_V ?_
  refine pw_avE (l_k (l_i rfl (l_i rfl l_0))) (H.mono (t_bE (fun b2 S1 H => ?_)))
  refine f_bE H (fun H => ?_) (fun H => ?_)
  · exact c_pi rfl H
  · refine tw_V ?_
    refine pw_avE (l_k (l_i rfl l_0)) (H.mono (t_bE (fun b4 S3 H => ?_)))
    refine f_bE H (fun H => ?_) (fun H => ?_)
    · exact c_pi rfl H
    · obtain ⟨h32, H⟩ := H
      refine f_leE (s := 0) (t := v4) rfl rfl (by constructor <;> decide) h32 H (fun H => ?_) (fun H => ?_)
      · obtain ⟨h31, H⟩ := H
        refine f_ltE (s := v4) (t := 100) rfl rfl h31 (by constructor <;> decide) H (fun H => ?_) (fun H => ?_)
        · obtain ⟨h25, H⟩ := H
          refine f_ltE (s := v4) (t := 10) rfl rfl h25 (by constructor <;> decide) H (fun H => ?_) (fun H => ?_)
          · obtain ⟨h22, H⟩ := H
            refine f_eqE (s := v4) (t := 0) rfl rfl h22 (by constructor <;> decide) H (fun H => ?_) (fun H => ?_)
            · obtain ⟨h9, H⟩ := H
              refine f_eqE (s := v4) (t := 1) rfl rfl h9 (by constructor <;> decide) H (fun H => ?_) (fun H => ?_)
              · refine tw_V ?_
                refine pw_avE (l_k (l_i rfl (l_i rfl l_0))) (H.mono (t_iE (fun z6 S5 H => ?_)))
                exact c_pi rfl H
              · refine tw_V ?_
                refine pw_avE (l_k (l_i rfl (l_i rfl l_0))) (H.mono (t_iE (fun z8 S7 H => ?_)))
                exact c_pi rfl H
            · obtain ⟨h21, H⟩ := H
              refine f_eqE (s := v4) (t := 1) rfl rfl h21 (by constructor <;> decide) H (fun H => ?_) (fun H => ?_)
              · obtain ⟨h14, H⟩ := H
                refine f_eqE (s := v4) (t := 1) rfl rfl h14 (by constructor <;> decide) H (fun H => ?_) (fun H => ?_)
                · refine tw_V ?_
                  refine pw_avE (l_k (l_i rfl (l_i rfl l_0))) (H.mono (t_iE (fun z11 S10 H => ?_)))
                  exact c_pi rfl H
                · refine tw_V ?_
                  refine pw_avE (l_k (l_i rfl (l_i rfl l_0))) (H.mono (t_iE (fun z13 S12 H => ?_)))
                  exact c_pi rfl H
              · obtain ⟨h20, H⟩ := H
                refine f_eqE (s := v4) (t := 2) rfl rfl h20 (by constructor <;> decide) H (fun H => ?_) (fun H => ?_)
                · refine tw_V ?_
                  refine pw_avE (l_k (l_i rfl (l_i rfl l_0))) (H.mono (t_iE (fun z16 S15 H => ?_)))
                  exact c_pi rfl H
                · obtain ⟨h19, H⟩ := H
                  refine f_eqE (s := v4) (t := 3) rfl rfl h19 (by constructor <;> decide) H (fun H => ?_) (fun H => ?_)
                  · refine tw_V ?_
                    refine pw_avE (l_k (l_i rfl l_0)) (H.mono (t_iE (fun z18 S17 H => ?_)))
                    exact c_pi rfl H
                  · exact c_pi rfl H
          · refine tw_V ?_
            refine pw_avE (l_k (l_i rfl (l_i (iI_subE rfl rfl) l_0))) (H.mono (t_iE (fun z24 S23 H => ?_)))
            exact c_pi rfl H
        · obtain ⟨h30, H⟩ := H
          refine f_leE (s := 200) (t := v4) rfl rfl (by constructor <;> decide) h30 H (fun H => ?_) (fun H => ?_)
          · refine tw_V ?_
            refine pw_avE (l_k (l_i rfl (l_i (iI_subE rfl rfl) l_0))) (H.mono (t_iE (fun z27 S26 H => ?_)))
            exact c_pi rfl H
          · refine tw_V ?_
            refine pw_avE (l_k (l_i rfl (l_i (iI_subE rfl rfl) l_0))) (H.mono (t_iE (fun z29 S28 H => ?_)))
            exact c_pi rfl H
      · exact c_pi rfl H
theorem t_X2_four_0 {E : pw_E} {d : Nat} {w0 : pw_W} {m : Nat} {S : tw_S} {Post : pw_R → pw_W → Prop} (hm : pw_base E ≤ m) (v1 : Int) (H : pw_Wp E m_X2_four (d + 1) 3 [some (va_rf (some m)), some (.int (iI v1)), some (.int (iI 24))] [] (tw w0 m S) Post) : pw_Wp E m_X2_four (d + 1) 0 [some (va_rf (some m)), some (.int (iI v1)), none] [] (tw w0 m S) Post := by
  refine s_X2_four_0 (some m) (iI v1) ?_
  exact pw_eqL (g_k (g_i rfl (g_i rfl g_0))) H
theorem t_X2_four_3 {E : pw_E} {d : Nat} {w0 : pw_W} {m : Nat} {S : tw_S} {Post : pw_R → pw_W → Prop} (hm : pw_base E ≤ m) (v1 : Int) (v2 : Int) (H : (rI v2 ∧ if v2 < 0 then Post (.inl none) (tw w0 m S) else ((0 : Int) ≤ (S.2.2 2 0) ∧ (S.2.2 2 0) < 2400 ∧ pw_Wp E m_X2_four (d + 1) 3 [some (va_rf (some m)), some (.int (iI v1)), some (.int (iI (v2 + (-8))))] [] (tw w0 m (tw_sa (tw_sa S 1 (Int.toNat (S.2.2 2 0)) (iB (Int32.toInt (((iI v1) >>> ((iI v2) &&& 31)).toInt8.toInt32)))) 2 0 ((S.2.2 2 0) + 1))) Post))) : pw_Wp E m_X2_four (d + 1) 3 [some (va_rf (some m)), some (.int (iI v1)), some (.int (iI v2))] [] (tw w0 m S) Post := by
  refine s_X2_four_3 (some m) (iI v1) (iI v2) ?_
  obtain ⟨h9, H⟩ := H
  refine f_ltE (s := v2) (t := 0) rfl rfl h9 (by constructor <;> decide) H (fun H => ?_) (fun H => ?_)
  · exact H
  · refine tw_getr rfl ?_
    refine tw_getr rfl ?_
    refine tw_aldi (k := 2) (t := 0) rfl rfl (by decide) (by decide) ?_
    obtain ⟨h3, h4, H⟩ := H
    refine tw_astb (t := (S.2.2 2 0)) (x := (Int32.toInt (((iI v1) >>> ((iI v2) &&& 31)).toInt8.toInt32))) hm rfl h3 h4 (iI_oE _) ?_
    refine tw_getr rfl ?_
    refine tw_aldi (k := 2) (t := 0) rfl rfl (by decide) (by decide) ?_
    refine tw_asti (k := 2) (t := 0) (x := ((S.2.2 2 0) + 1)) hm rfl rfl (by decide) (by decide) (iI_addE rfl rfl) ?_
    exact pw_eqL (g_k (g_i rfl (g_i (iI_addE rfl rfl) g_0))) H
theorem t_X2_fresh_0 {E : pw_E} {d : Nat} {w0 : pw_W} {m : Nat} {S : tw_S} {Post : pw_R → pw_W → Prop} (hm : pw_base E ≤ m) (v1 : Int) (v2 : Int) (H : pw_Wp E m_X2_fresh (d + 1) 5 [some (va_rf (some m)), some (.int (iI v1)), some (.int (iI v2)), some (.int (iI 0)), some (.int (iI 0))] [] (tw w0 m S) Post) : pw_Wp E m_X2_fresh (d + 1) 0 [some (va_rf (some m)), some (.int (iI v1)), some (.int (iI v2)), none, none] [] (tw w0 m S) Post := by
  refine s_X2_fresh_0 (some m) (iI v1) (iI v2) ?_
  exact pw_eqL (g_k (g_i rfl (g_i rfl (g_i rfl (g_i rfl g_0))))) H
theorem t_X2_fresh_5 {E : pw_E} {d : Nat} {w0 : pw_W} {m : Nat} {S : tw_S} {Post : pw_R → pw_W → Prop} (hm : pw_base E ≤ m) (v1 : Int) (v2 : Int) (v3 : Int) (v4 : Int) (H : pw_Cl E m_X2_longOf d [va_rf (some m), .int (iI v1), .int (iI v2)] (tw w0 m S) (c_i (t_i w0 m (fun z2 S1 => (rI z2 ∧ rI v4 ∧ if z2 ≤ v4 then Post (.inl (some (.int (iI v3)))) (tw w0 m S1) else pw_Cl E m_X2_tokenAt d [va_rf (some m), .int (iI v1), .int (iI v2), .int (iI v4)] (tw w0 m S1) (c_i (t_i w0 m (fun z4 S3 => pw_Cl E m_X2_whereIs d [va_rf (some m), .int (iI z4)] (tw w0 m S3) (c_i (t_i w0 m (fun z6 S5 => (if (Int32.toInt ((iI z6) &&& ((1 <<< ((iI v2) &&& 31)) - 1))) = 0 then pw_Wp E m_X2_fresh (d + 1) 5 [some (va_rf (some m)), some (.int (iI v1)), some (.int (iI v2)), some (.int (iI (v3 + 1))), some (.int (iI (v4 + 1)))] [] (tw w0 m S5) Post else pw_Wp E m_X2_fresh (d + 1) 5 [some (va_rf (some m)), some (.int (iI v1)), some (.int (iI v2)), some (.int (iI (v3 + 0))), some (.int (iI (v4 + 1)))] [] (tw w0 m S5) Post)))))))))))) : pw_Wp E m_X2_fresh (d + 1) 5 [some (va_rf (some m)), some (.int (iI v1)), some (.int (iI v2)), some (.int (iI v3)), some (.int (iI v4))] [] (tw w0 m S) Post := by
  refine s_X2_fresh_5 (some m) (iI v1) (iI v2) (iI v3) (iI v4) ?_
  refine tw_V ?_
  refine pw_avE (l_k (l_i rfl (l_i rfl l_0))) (H.mono (t_iE (fun z2 S1 H => ?_)))
  obtain ⟨h7, H⟩ := H
  obtain ⟨h8, H⟩ := H
  refine f_leE (s := z2) (t := v4) rfl rfl h7 h8 H (fun H => ?_) (fun H => ?_)
  · exact c_pi rfl H
  · refine tw_V ?_
    refine pw_avE (l_k (l_i rfl (l_i rfl (l_i rfl l_0)))) (H.mono (t_iE (fun z4 S3 H => ?_)))
    refine tw_V ?_
    refine pw_avE (l_k (l_i rfl l_0)) (H.mono (t_iE (fun z6 S5 H => ?_)))
    refine f_eqE (s := (Int32.toInt ((iI z6) &&& ((1 <<< ((iI v2) &&& 31)) - 1)))) (t := 0) (iI_oE _) rfl (rI_of _) (by constructor <;> decide) H (fun H => ?_) (fun H => ?_)
    · exact pw_eqL (g_k (g_i rfl (g_i rfl (g_i (iI_addE rfl rfl) (g_i (iI_addE rfl rfl) g_0))))) H
    · exact pw_eqL (g_k (g_i rfl (g_i rfl (g_i (iI_addE rfl rfl) (g_i (iI_addE rfl rfl) g_0))))) H
theorem t_X2_greater_0 {E : pw_E} {d : Nat} {w0 : pw_W} {m : Nat} {S : tw_S} {Post : pw_R → pw_W → Prop} (hm : pw_base E ≤ m) (v0 : Int) (v1 : Int) (H : (rI v0 ∧ rI v1 ∧ if v0 ≤ v1 then Post (.inl (some (.int (iI v1)))) (tw w0 m S) else Post (.inl (some (.int (iI v0)))) (tw w0 m S))) : pw_Wp E m_X2_greater (d + 1) 0 [some (.int (iI v0)), some (.int (iI v1))] [] (tw w0 m S) Post := by
  refine s_X2_greater_0 (iI v0) (iI v1) ?_
  obtain ⟨h1, H⟩ := H
  obtain ⟨h2, H⟩ := H
  refine f_leE (s := v0) (t := v1) rfl rfl h1 h2 H (fun H => ?_) (fun H => ?_)
  · exact c_pi rfl H
  · exact c_pi rfl H
theorem t_X2_hand_0 {E : pw_E} {d : Nat} {w0 : pw_W} {m : Nat} {S : tw_S} {Post : pw_R → pw_W → Prop} (hm : pw_base E ≤ m) (v1 : Int) (H : pw_Cl E m_X2_is d [va_rf (some m), .int (iI 0), .int (iI v1)] (tw w0 m S) (c_z (t_b w0 m (fun b2 S1 => (if b2 = true then pw_Wp E m_X2_hand (d + 1) 13 [some (va_rf (some m)), some (.int (iI v1)), some (.int (iI 0))] [] (tw w0 m S1) Post else Post (.inl (some (.int (iI 0)))) (tw w0 m S1)))))) : pw_Wp E m_X2_hand (d + 1) 0 [some (va_rf (some m)), some (.int (iI v1)), none] [] (tw w0 m S) Post := by
  refine s_X2_hand_0 (some m) (iI v1) ?_
  refine tw_V ?_
  refine pw_avE (l_k (l_i rfl (l_i rfl l_0))) (H.mono (t_bE (fun b2 S1 H => ?_)))
  refine f_bE H (fun H => ?_) (fun H => ?_)
  · exact c_pi rfl H
  · exact pw_eqL (g_k (g_i rfl (g_i rfl g_0))) H
theorem t_X2_hand_13 {E : pw_E} {d : Nat} {w0 : pw_W} {m : Nat} {S : tw_S} {Post : pw_R → pw_W → Prop} (hm : pw_base E ≤ m) (v1 : Int) (v2 : Int) (H : (rI v2 ∧ if (1526 : Int) ≤ v2 then Post (.inl (some (.int (iI 1)))) (tw w0 m (tw_sf S 24 (S.2.2 9 5))) else ((0 : Int) ≤ ((1526 * v1) + v2) ∧ ((1526 * v1) + v2) < 12208 ∧ ((0 : Int) ≤ v2 ∧ v2 < 1526 ∧ pw_Wp E m_X2_hand (d + 1) 13 [some (va_rf (some m)), some (.int (iI v1)), some (.int (iI (v2 + 1)))] [] (tw w0 m (tw_sa S 9 (Int.toNat v2) (S.2.2 6 (Int.toNat ((1526 * v1) + v2))))) Post)))) : pw_Wp E m_X2_hand (d + 1) 13 [some (va_rf (some m)), some (.int (iI v1)), some (.int (iI v2))] [] (tw w0 m S) Post := by
  refine s_X2_hand_13 (some m) (iI v1) (iI v2) ?_
  obtain ⟨h7, H⟩ := H
  refine f_leE (s := 1526) (t := v2) rfl rfl (by constructor <;> decide) h7 H (fun H => ?_) (fun H => ?_)
  · refine tw_getr rfl ?_
    refine tw_aldi (k := 9) (t := 5) rfl rfl (by decide) (by decide) ?_
    refine tw_puti (x := (S.2.2 9 5)) hm rfl rfl ?_
    exact c_pi rfl H
  · refine tw_getr rfl ?_
    refine tw_getr rfl ?_
    obtain ⟨h3, h4, H⟩ := H
    refine tw_aldi (k := 6) (t := ((1526 * v1) + v2)) rfl (iI_addE (iI_mulE rfl rfl) rfl) h3 h4 ?_
    obtain ⟨h5, h6, H⟩ := H
    refine tw_asti (k := 9) (t := v2) (x := (S.2.2 6 (Int.toNat ((1526 * v1) + v2)))) hm rfl rfl h5 h6 rfl ?_
    exact pw_eqL (g_k (g_i rfl (g_i (iI_addE rfl rfl) g_0))) H
theorem t_X2_has_0 {E : pw_E} {d : Nat} {w0 : pw_W} {m : Nat} {S : tw_S} {Post : pw_R → pw_W → Prop} (hm : pw_base E ≤ m) (v0 : Int) (v1 : Int) (H : (if (Int32.toInt (((iI v0) >>> ((iI v1) &&& 31)) &&& 1)) = 1 then Post (.inl (some (.int (iI 1)))) (tw w0 m S) else Post (.inl (some (.int (iI 0)))) (tw w0 m S))) : pw_Wp E m_X2_has (d + 1) 0 [some (.int (iI v0)), some (.int (iI v1))] [] (tw w0 m S) Post := by
  refine s_X2_has_0 (iI v0) (iI v1) ?_
  refine f_eqE (s := (Int32.toInt (((iI v0) >>> ((iI v1) &&& 31)) &&& 1))) (t := 1) (iI_oE _) rfl (rI_of _) (by constructor <;> decide) H (fun H => ?_) (fun H => ?_)
  · exact c_pi rfl H
  · exact c_pi rfl H
theorem t_X2_hasAhead_0 {E : pw_E} {d : Nat} {w0 : pw_W} {m : Nat} {S : tw_S} {Post : pw_R → pw_W → Prop} (hm : pw_base E ≤ m) (v1 : Int) (v2 : Int) (v3 : Int) (H : pw_Wp E m_X2_hasAhead (d + 1) 3 [some (va_rf (some m)), some (.int (iI v1)), some (.int (iI v2)), some (.int (iI v3)), some (.int (iI 0))] [] (tw w0 m S) Post) : pw_Wp E m_X2_hasAhead (d + 1) 0 [some (va_rf (some m)), some (.int (iI v1)), some (.int (iI v2)), some (.int (iI v3)), none] [] (tw w0 m S) Post := by
  refine s_X2_hasAhead_0 (some m) (iI v1) (iI v2) (iI v3) ?_
  exact pw_eqL (g_k (g_i rfl (g_i rfl (g_i rfl (g_i rfl g_0))))) H
theorem t_X2_hasAhead_3 {E : pw_E} {d : Nat} {w0 : pw_W} {m : Nat} {S : tw_S} {Post : pw_R → pw_W → Prop} (hm : pw_base E ≤ m) (v1 : Int) (v2 : Int) (v3 : Int) (v4 : Int) (H : (rI (S.1 24) ∧ rI v4 ∧ if (S.1 24) ≤ v4 then Post (.inl (some (.int (iI 0)))) (tw w0 m S) else ((0 : Int) ≤ (1206 + v4) ∧ (1206 + v4) < 1526 ∧ (rI (S.2.2 9 (Int.toNat (1206 + v4))) ∧ rI v1 ∧ if (S.2.2 9 (Int.toNat (1206 + v4))) = v1 then pw_Cl E m_X2_whereIs d [va_rf (some m), .int (iI v4)] (tw w0 m S) (c_i (t_i w0 m (fun z4 S3 => (rI z4 ∧ rI v3 ∧ if z4 = v3 then pw_Cl E m_X2_behindOf d [va_rf (some m), .int (iI v1), .int (iI v4), .int (iI v3)] (tw w0 m S3) (c_i (t_i w0 m (fun z6 S5 => (rI z6 ∧ rI v2 ∧ if z6 = v2 then Post (.inl (some (.int (iI 1)))) (tw w0 m S5) else pw_Wp E m_X2_hasAhead (d + 1) 3 [some (va_rf (some m)), some (.int (iI v1)), some (.int (iI v2)), some (.int (iI v3)), some (.int (iI (v4 + 1)))] [] (tw w0 m S5) Post)))) else pw_Wp E m_X2_hasAhead (d + 1) 3 [some (va_rf (some m)), some (.int (iI v1)), some (.int (iI v2)), some (.int (iI v3)), some (.int (iI (v4 + 1)))] [] (tw w0 m S3) Post)))) else pw_Wp E m_X2_hasAhead (d + 1) 3 [some (va_rf (some m)), some (.int (iI v1)), some (.int (iI v2)), some (.int (iI v3)), some (.int (iI (v4 + 1)))] [] (tw w0 m S) Post)))) : pw_Wp E m_X2_hasAhead (d + 1) 3 [some (va_rf (some m)), some (.int (iI v1)), some (.int (iI v2)), some (.int (iI v3)), some (.int (iI v4))] [] (tw w0 m S) Post := by
  refine s_X2_hasAhead_3 (some m) (iI v1) (iI v2) (iI v3) (iI v4) ?_
  refine tw_geti rfl ?_
  obtain ⟨h13, H⟩ := H
  obtain ⟨h14, H⟩ := H
  refine f_leE (s := (S.1 24)) (t := v4) rfl rfl h13 h14 H (fun H => ?_) (fun H => ?_)
  · exact c_pi rfl H
  · refine tw_getr rfl ?_
    obtain ⟨h1, h2, H⟩ := H
    refine tw_aldi (k := 9) (t := (1206 + v4)) rfl (iI_addE rfl rfl) h1 h2 ?_
    obtain ⟨h11, H⟩ := H
    obtain ⟨h12, H⟩ := H
    refine f_eqE (s := (S.2.2 9 (Int.toNat (1206 + v4)))) (t := v1) rfl rfl h11 h12 H (fun H => ?_) (fun H => ?_)
    · refine tw_V ?_
      refine pw_avE (l_k (l_i rfl l_0)) (H.mono (t_iE (fun z4 S3 H => ?_)))
      obtain ⟨h9, H⟩ := H
      obtain ⟨h10, H⟩ := H
      refine f_eqE (s := z4) (t := v3) rfl rfl h9 h10 H (fun H => ?_) (fun H => ?_)
      · refine tw_V ?_
        refine pw_avE (l_k (l_i rfl (l_i rfl (l_i rfl l_0)))) (H.mono (t_iE (fun z6 S5 H => ?_)))
        obtain ⟨h7, H⟩ := H
        obtain ⟨h8, H⟩ := H
        refine f_eqE (s := z6) (t := v2) rfl rfl h7 h8 H (fun H => ?_) (fun H => ?_)
        · exact c_pi rfl H
        · exact pw_eqL (g_k (g_i rfl (g_i rfl (g_i rfl (g_i (iI_addE rfl rfl) g_0))))) H
      · exact pw_eqL (g_k (g_i rfl (g_i rfl (g_i rfl (g_i (iI_addE rfl rfl) g_0))))) H
    · exact pw_eqL (g_k (g_i rfl (g_i rfl (g_i rfl (g_i (iI_addE rfl rfl) g_0))))) H
theorem t_X2_hasAsking_0 {E : pw_E} {d : Nat} {w0 : pw_W} {m : Nat} {S : tw_S} {Post : pw_R → pw_W → Prop} (hm : pw_base E ≤ m) (v1 : Int) (H : pw_Cl E m_X2_is d [va_rf (some m), .int (iI 1), .int (iI v1)] (tw w0 m (tw_sf S 28 v1)) (c_z (t_b w0 m (fun b2 S1 => Post (.inl (some (.int (bI b2)))) (tw w0 m S1))))) : pw_Wp E m_X2_hasAsking (d + 1) 0 [some (va_rf (some m)), some (.int (iI v1))] [] (tw w0 m S) Post := by
  refine s_X2_hasAsking_0 (some m) (iI v1) ?_
  refine tw_puti (x := v1) hm rfl rfl ?_
  refine tw_V ?_
  refine pw_avE (l_k (l_i rfl (l_i rfl l_0))) (H.mono (t_bE (fun b2 S1 H => ?_)))
  exact H
theorem t_X2_hasHunt_0 {E : pw_E} {d : Nat} {w0 : pw_W} {m : Nat} {S : tw_S} {Post : pw_R → pw_W → Prop} (hm : pw_base E ≤ m) (v1 : Int) (H : pw_Cl E m_X2_is d [va_rf (some m), .int (iI 2), .int (iI v1)] (tw w0 m (tw_sf S 30 v1)) (c_z (t_b w0 m (fun b2 S1 => Post (.inl (some (.int (bI b2)))) (tw w0 m S1))))) : pw_Wp E m_X2_hasHunt (d + 1) 0 [some (va_rf (some m)), some (.int (iI v1))] [] (tw w0 m S) Post := by
  refine s_X2_hasHunt_0 (some m) (iI v1) ?_
  refine tw_puti (x := v1) hm rfl rfl ?_
  refine tw_V ?_
  refine pw_avE (l_k (l_i rfl (l_i rfl l_0))) (H.mono (t_bE (fun b2 S1 H => ?_)))
  exact H
theorem t_X2_holds_0 {E : pw_E} {d : Nat} {w0 : pw_W} {m : Nat} {S : tw_S} {Post : pw_R → pw_W → Prop} (hm : pw_base E ≤ m) (v1 : Int) (v2 : Int) (v3 : Int) (v4 : Int) (v5 : Int) (H : pw_Cl E m_X2_layHeld d [va_rf (some m), .int (iI v1), .int (iI v2)] (tw w0 m (tw_sf S 0 0)) (c_z (t_b w0 m (fun b2 S1 => (if b2 = true then pw_Cl E m_X2_isAsking d [va_rf (some m), .int (iI v3)] (tw w0 m S1) (c_z (t_b w0 m (fun b4 S3 => (if b4 = true then pw_Cl E m_X2_isVersion d [va_rf (some m), .int (iI v4), .int (iI v5)] (tw w0 m S3) (c_z (t_b w0 m (fun b6 S5 => (if b6 = true then ((0 : Int) ≤ ((4 * v3) + v4) ∧ ((4 * v3) + v4) < 32 ∧ pw_Cl E m_X2_has d [.int (iI (S5.2.2 14 (Int.toNat ((4 * v3) + v4)))), .int (iI v5)] (tw w0 m S5) (c_z (t_b w0 m (fun b10 S9 => (if b10 = true then Post (.inl (some (.int (iI 1)))) (tw w0 m S9) else Post (.inl (some (.int (iI 0)))) (tw w0 m S9)))))) else Post (.inl (some (.int (iI (-1))))) (tw w0 m S5))))) else Post (.inl (some (.int (iI (-1))))) (tw w0 m S3))))) else Post (.inl (some (.int (iI (-1))))) (tw w0 m S1)))))) : pw_Wp E m_X2_holds (d + 1) 0 [some (va_rf (some m)), some (.int (iI v1)), some (.int (iI v2)), some (.int (iI v3)), some (.int (iI v4)), some (.int (iI v5))] [] (tw w0 m S) Post := by
  refine s_X2_holds_0 (some m) (iI v1) (iI v2) (iI v3) (iI v4) (iI v5) ?_
  refine tw_puti (x := 0) hm rfl rfl ?_
  refine tw_V ?_
  refine pw_avE (l_k (l_i rfl (l_i rfl l_0))) (H.mono (t_bE (fun b2 S1 H => ?_)))
  refine f_bE H (fun H => ?_) (fun H => ?_)
  · exact c_pi rfl H
  · refine tw_V ?_
    refine pw_avE (l_k (l_i rfl l_0)) (H.mono (t_bE (fun b4 S3 H => ?_)))
    refine f_bE H (fun H => ?_) (fun H => ?_)
    · exact c_pi rfl H
    · refine tw_V ?_
      refine pw_avE (l_k (l_i rfl (l_i rfl l_0))) (H.mono (t_bE (fun b6 S5 H => ?_)))
      refine f_bE H (fun H => ?_) (fun H => ?_)
      · exact c_pi rfl H
      · refine tw_getr rfl ?_
        obtain ⟨h7, h8, H⟩ := H
        refine tw_aldi (k := 14) (t := ((4 * v3) + v4)) rfl (iI_addE (iI_mulE rfl rfl) rfl) h7 h8 ?_
        refine pw_avE (l_i rfl (l_i rfl l_0)) (H.mono (t_bE (fun b10 S9 H => ?_)))
        refine f_bE H (fun H => ?_) (fun H => ?_)
        · exact c_pi rfl H
        · exact c_pi rfl H
theorem t_X2_holdsBy_0 {E : pw_E} {d : Nat} {w0 : pw_W} {m : Nat} {S : tw_S} {Post : pw_R → pw_W → Prop} (hm : pw_base E ≤ m) (v1 : Int) (v2 : Int) (v3 : Int) (H : pw_Cl E m_X2_ofAsking d [va_rf (some m), .int (iI v1), .int (iI 1)] (tw w0 m S) (c_i (t_i w0 m (fun z2 S1 => pw_Cl E m_X2_ofAsking d [va_rf (some m), .int (iI v1), .int (iI 2)] (tw w0 m S1) (c_i (t_i w0 m (fun z4 S3 => pw_Cl E m_X2_ofAsking d [va_rf (some m), .int (iI v1), .int (iI 0)] (tw w0 m S3) (c_i (t_i w0 m (fun z6 S5 => (rI z6 ∧ if z6 = 0 then pw_Cl E m_X2_timesOf d [va_rf (some m), .int (iI v1), .int (iI v2), .int (iI v3)] (tw w0 m S5) (c_i (t_i w0 m (fun z8 S7 => (rI z8 ∧ if z8 ≤ 0 then Post (.inl (some (.int (iI 0)))) (tw w0 m S7) else Post (.inl (some (.int (iI 1)))) (tw w0 m S7))))) else (rI z6 ∧ if z6 = 1 then pw_Cl E m_X2_areNear d [va_rf (some m), .int (iI v1), .int (iI v2), .int (iI v3)] (tw w0 m S5) (c_z (t_b w0 m (fun b11 S10 => Post (.inl (some (.int (bI b11)))) (tw w0 m S10)))) else (rI z6 ∧ if z6 = 2 then pw_Cl E m_X2_ofAsking d [va_rf (some m), .int (iI v1), .int (iI 3)] (tw w0 m S5) (c_i (t_i w0 m (fun z13 S12 => pw_Cl E m_X2_timesIn d [va_rf (some m), .int (iI v2), .int (iI v3), .int (iI z13)] (tw w0 m S12) (c_i (t_i w0 m (fun z15 S14 => (rI z15 ∧ rI z2 ∧ if z15 < z2 then Post (.inl (some (.int (iI 0)))) (tw w0 m S14) else Post (.inl (some (.int (iI 1)))) (tw w0 m S14)))))))) else (rI z6 ∧ if z6 = 3 then ((0 : Int) ≤ ((4 * z2) + v2) ∧ ((4 * z2) + v2) < 32 ∧ pw_Cl E m_X2_has d [.int (iI (S5.2.2 14 (Int.toNat ((4 * z2) + v2)))), .int (iI v3)] (tw w0 m S5) (c_z (t_b w0 m (fun b21 S20 => (if b21 = true then Post (.inl (some (.int (iI 0)))) (tw w0 m S20) else Post (.inl (some (.int (iI 1)))) (tw w0 m S20)))))) else (rI z6 ∧ if z6 = 4 then ((0 : Int) ≤ ((4 * z2) + v2) ∧ ((4 * z2) + v2) < 32 ∧ (if (Int32.toInt ((iI (S5.2.2 14 (Int.toNat ((4 * z2) + v2)))) &&& ((2 <<< ((iI v3) &&& 31)) - 1))) = 0 then Post (.inl (some (.int (iI 0)))) (tw w0 m S5) else Post (.inl (some (.int (iI 1)))) (tw w0 m S5))) else (rI z6 ∧ if z6 = 5 then ((0 : Int) ≤ ((4 * z2) + v2) ∧ ((4 * z2) + v2) < 32 ∧ pw_Cl E m_X2_has d [.int (iI (S5.2.2 14 (Int.toNat ((4 * z2) + v2)))), .int (iI v3)] (tw w0 m S5) (c_z (t_b w0 m (fun b27 S26 => (if b27 = true then (rI v3 ∧ if v3 = 0 then Post (.inl (some (.int (iI 1)))) (tw w0 m S26) else ((0 : Int) ≤ ((4 * z2) + v2) ∧ ((4 * z2) + v2) < 32 ∧ pw_Cl E m_X2_has d [.int (iI (S26.2.2 14 (Int.toNat ((4 * z2) + v2)))), .int (iI (v3 - 1))] (tw w0 m S26) (c_z (t_b w0 m (fun b31 S30 => (if b31 = true then Post (.inl (some (.int (iI 0)))) (tw w0 m S30) else Post (.inl (some (.int (iI 1)))) (tw w0 m S30))))))) else Post (.inl (some (.int (iI 0)))) (tw w0 m S26)))))) else (rI z6 ∧ if z6 = 6 then ((0 : Int) ≤ ((4 * z2) + v2) ∧ ((4 * z2) + v2) < 32 ∧ ((0 : Int) ≤ ((4 * z4) + v2) ∧ ((4 * z4) + v2) < 32 ∧ pw_Cl E m_X2_has d [.int (iI (Int32.toInt ((iI (S5.2.2 14 (Int.toNat ((4 * z2) + v2)))) &&& (iI (S5.2.2 14 (Int.toNat ((4 * z4) + v2))))))), .int (iI v3)] (tw w0 m S5) (c_z (t_b w0 m (fun b38 S37 => Post (.inl (some (.int (bI b38)))) (tw w0 m S37)))))) else ((0 : Int) ≤ ((4 * z2) + v2) ∧ ((4 * z2) + v2) < 32 ∧ ((0 : Int) ≤ ((4 * z4) + v2) ∧ ((4 * z4) + v2) < 32 ∧ pw_Cl E m_X2_has d [.int (iI (Int32.toInt ((iI (S5.2.2 14 (Int.toNat ((4 * z2) + v2)))) ||| (iI (S5.2.2 14 (Int.toNat ((4 * z4) + v2))))))), .int (iI v3)] (tw w0 m S5) (c_z (t_b w0 m (fun b44 S43 => Post (.inl (some (.int (bI b44)))) (tw w0 m S43))))))))))))))))))))))) : pw_Wp E m_X2_holdsBy (d + 1) 0 [some (va_rf (some m)), some (.int (iI v1)), some (.int (iI v2)), some (.int (iI v3)), none, none] [] (tw w0 m S) Post := by
  refine s_X2_holdsBy_0 (some m) (iI v1) (iI v2) (iI v3) ?_
  refine tw_V ?_
  refine pw_avE (l_k (l_i rfl (l_i rfl l_0))) (H.mono (t_iE (fun z2 S1 H => ?_)))
  refine tw_V ?_
  refine pw_avE (l_k (l_i rfl (l_i rfl l_0))) (H.mono (t_iE (fun z4 S3 H => ?_)))
  refine tw_V ?_
  refine pw_avE (l_k (l_i rfl (l_i rfl l_0))) (H.mono (t_iE (fun z6 S5 H => ?_)))
  obtain ⟨h51, H⟩ := H
  refine f_eqE (s := z6) (t := 0) rfl rfl h51 (by constructor <;> decide) H (fun H => ?_) (fun H => ?_)
  · refine tw_V ?_
    refine pw_avE (l_k (l_i rfl (l_i rfl (l_i rfl l_0)))) (H.mono (t_iE (fun z8 S7 H => ?_)))
    obtain ⟨h9, H⟩ := H
    refine f_leE (s := z8) (t := 0) rfl rfl h9 (by constructor <;> decide) H (fun H => ?_) (fun H => ?_)
    · exact c_pi rfl H
    · exact c_pi rfl H
  · obtain ⟨h50, H⟩ := H
    refine f_eqE (s := z6) (t := 1) rfl rfl h50 (by constructor <;> decide) H (fun H => ?_) (fun H => ?_)
    · refine tw_V ?_
      refine pw_avE (l_k (l_i rfl (l_i rfl (l_i rfl l_0)))) (H.mono (t_bE (fun b11 S10 H => ?_)))
      exact H
    · obtain ⟨h49, H⟩ := H
      refine f_eqE (s := z6) (t := 2) rfl rfl h49 (by constructor <;> decide) H (fun H => ?_) (fun H => ?_)
      · refine tw_V ?_
        refine pw_avE (l_k (l_i rfl (l_i rfl l_0))) (H.mono (t_iE (fun z13 S12 H => ?_)))
        refine tw_V ?_
        refine pw_avE (l_k (l_i rfl (l_i rfl (l_i rfl l_0)))) (H.mono (t_iE (fun z15 S14 H => ?_)))
        obtain ⟨h16, H⟩ := H
        obtain ⟨h17, H⟩ := H
        refine f_ltE (s := z15) (t := z2) rfl rfl h16 h17 H (fun H => ?_) (fun H => ?_)
        · exact c_pi rfl H
        · exact c_pi rfl H
      · obtain ⟨h48, H⟩ := H
        refine f_eqE (s := z6) (t := 3) rfl rfl h48 (by constructor <;> decide) H (fun H => ?_) (fun H => ?_)
        · refine tw_getr rfl ?_
          obtain ⟨h18, h19, H⟩ := H
          refine tw_aldi (k := 14) (t := ((4 * z2) + v2)) rfl (iI_addE (iI_mulE rfl rfl) rfl) h18 h19 ?_
          refine pw_avE (l_i rfl (l_i rfl l_0)) (H.mono (t_bE (fun b21 S20 H => ?_)))
          refine f_bE H (fun H => ?_) (fun H => ?_)
          · exact c_pi rfl H
          · exact c_pi rfl H
        · obtain ⟨h47, H⟩ := H
          refine f_eqE (s := z6) (t := 4) rfl rfl h47 (by constructor <;> decide) H (fun H => ?_) (fun H => ?_)
          · refine tw_getr rfl ?_
            obtain ⟨h22, h23, H⟩ := H
            refine tw_aldi (k := 14) (t := ((4 * z2) + v2)) rfl (iI_addE (iI_mulE rfl rfl) rfl) h22 h23 ?_
            refine f_eqE (s := (Int32.toInt ((iI (S5.2.2 14 (Int.toNat ((4 * z2) + v2)))) &&& ((2 <<< ((iI v3) &&& 31)) - 1)))) (t := 0) (iI_oE _) rfl (rI_of _) (by constructor <;> decide) H (fun H => ?_) (fun H => ?_)
            · exact c_pi rfl H
            · exact c_pi rfl H
          · obtain ⟨h46, H⟩ := H
            refine f_eqE (s := z6) (t := 5) rfl rfl h46 (by constructor <;> decide) H (fun H => ?_) (fun H => ?_)
            · refine tw_getr rfl ?_
              obtain ⟨h24, h25, H⟩ := H
              refine tw_aldi (k := 14) (t := ((4 * z2) + v2)) rfl (iI_addE (iI_mulE rfl rfl) rfl) h24 h25 ?_
              refine pw_avE (l_i rfl (l_i rfl l_0)) (H.mono (t_bE (fun b27 S26 H => ?_)))
              refine f_bE H (fun H => ?_) (fun H => ?_)
              · exact c_pi rfl H
              · obtain ⟨h32, H⟩ := H
                refine f_eqE (s := v3) (t := 0) rfl rfl h32 (by constructor <;> decide) H (fun H => ?_) (fun H => ?_)
                · exact c_pi rfl H
                · refine tw_getr rfl ?_
                  obtain ⟨h28, h29, H⟩ := H
                  refine tw_aldi (k := 14) (t := ((4 * z2) + v2)) rfl (iI_addE (iI_mulE rfl rfl) rfl) h28 h29 ?_
                  refine pw_avE (l_i rfl (l_i (iI_subE rfl rfl) l_0)) (H.mono (t_bE (fun b31 S30 H => ?_)))
                  refine f_bE H (fun H => ?_) (fun H => ?_)
                  · exact c_pi rfl H
                  · exact c_pi rfl H
            · obtain ⟨h45, H⟩ := H
              refine f_eqE (s := z6) (t := 6) rfl rfl h45 (by constructor <;> decide) H (fun H => ?_) (fun H => ?_)
              · refine tw_getr rfl ?_
                obtain ⟨h33, h34, H⟩ := H
                refine tw_aldi (k := 14) (t := ((4 * z2) + v2)) rfl (iI_addE (iI_mulE rfl rfl) rfl) h33 h34 ?_
                refine tw_getr rfl ?_
                obtain ⟨h35, h36, H⟩ := H
                refine tw_aldi (k := 14) (t := ((4 * z4) + v2)) rfl (iI_addE (iI_mulE rfl rfl) rfl) h35 h36 ?_
                refine pw_avE (l_i (iI_oE _) (l_i rfl l_0)) (H.mono (t_bE (fun b38 S37 H => ?_)))
                exact H
              · refine tw_getr rfl ?_
                obtain ⟨h39, h40, H⟩ := H
                refine tw_aldi (k := 14) (t := ((4 * z2) + v2)) rfl (iI_addE (iI_mulE rfl rfl) rfl) h39 h40 ?_
                refine tw_getr rfl ?_
                obtain ⟨h41, h42, H⟩ := H
                refine tw_aldi (k := 14) (t := ((4 * z4) + v2)) rfl (iI_addE (iI_mulE rfl rfl) rfl) h41 h42 ?_
                refine pw_avE (l_i (iI_oE _) (l_i rfl l_0)) (H.mono (t_bE (fun b44 S43 H => ?_)))
                exact H
theorem t_X2_huntLine_0 {E : pw_E} {d : Nat} {w0 : pw_W} {m : Nat} {S : tw_S} {Post : pw_R → pw_W → Prop} (hm : pw_base E ≤ m) (v1 : Int64) (v3 : Int) (H : (if (Int32.toInt (lg_cmp v1 26990)) = 0 then (rI (S.2.2 9 0) ∧ if (S.2.2 9 0) = 8 then pw_Cl E m_X2_addsFault d [va_rf (some m), .int (iI 3), .int (iI v3)] (tw w0 m S) (c_v (t_u w0 m (fun S3 => pw_Wp E m_X2_huntLine (d + 1) 42 [some (va_rf (some m)), some (.long v1), none, none, some (.int (iI (S.2.2 9 0))), none] [] (tw w0 m S3) Post))) else pw_Wp E m_X2_huntLine (d + 1) 42 [some (va_rf (some m)), some (.long v1), none, none, some (.int (iI (S.2.2 9 0))), none] [] (tw w0 m S) Post) else (if (Int32.toInt (lg_cmp v1 7304564)) = 0 then (rI (S.2.2 9 0) ∧ if (S.2.2 9 0) = 8 then pw_Cl E m_X2_addsFault d [va_rf (some m), .int (iI 3), .int (iI v3)] (tw w0 m S) (c_v (t_u w0 m (fun S7 => pw_Wp E m_X2_huntLine (d + 1) 42 [some (va_rf (some m)), some (.long v1), none, none, some (.int (iI (S.2.2 9 0))), none] [] (tw w0 m S7) Post))) else pw_Wp E m_X2_huntLine (d + 1) 42 [some (va_rf (some m)), some (.long v1), none, none, some (.int (iI (S.2.2 9 0))), none] [] (tw w0 m S) Post) else pw_Cl E m_X2_fails d [va_rf (some m)] (tw w0 m S) (c_z (t_b w0 m (fun b10 S9 => Post (.inl (some (.int (bI b10)))) (tw w0 m S9))))))) : pw_Wp E m_X2_huntLine (d + 1) 0 [some (va_rf (some m)), some (.long v1), none, some (.int (iI v3)), none, none] [] (tw w0 m S) Post := by
  refine s_X2_huntLine_0 (some m) v1 (iI v3) ?_
  refine f_eqE (s := (Int32.toInt (lg_cmp v1 26990))) (t := 0) (iI_oE _) rfl (rI_of _) (by constructor <;> decide) H (fun H => ?_) (fun H => ?_)
  · refine tw_getr rfl ?_
    refine tw_aldi (k := 9) (t := 0) rfl rfl (by decide) (by decide) ?_
    obtain ⟨h4, H⟩ := H
    refine f_eqE (s := (S.2.2 9 0)) (t := 8) rfl rfl h4 (by constructor <;> decide) H (fun H => ?_) (fun H => ?_)
    · refine tw_V ?_
      refine pw_avE (l_k (l_i rfl (l_i rfl l_0))) (H.mono (t_uE (fun S3 H => ?_)))
      exact pw_eqL (g_k (g_k (g_k (g_k (g_i rfl (g_k g_0)))))) H
    · exact pw_eqL (g_k (g_k (g_k (g_k (g_i rfl (g_k g_0)))))) H
  · refine f_eqE (s := (Int32.toInt (lg_cmp v1 7304564))) (t := 0) (iI_oE _) rfl (rI_of _) (by constructor <;> decide) H (fun H => ?_) (fun H => ?_)
    · refine tw_getr rfl ?_
      refine tw_aldi (k := 9) (t := 0) rfl rfl (by decide) (by decide) ?_
      obtain ⟨h8, H⟩ := H
      refine f_eqE (s := (S.2.2 9 0)) (t := 8) rfl rfl h8 (by constructor <;> decide) H (fun H => ?_) (fun H => ?_)
      · refine tw_V ?_
        refine pw_avE (l_k (l_i rfl (l_i rfl l_0))) (H.mono (t_uE (fun S7 H => ?_)))
        exact pw_eqL (g_k (g_k (g_k (g_k (g_i rfl (g_k g_0)))))) H
      · exact pw_eqL (g_k (g_k (g_k (g_k (g_i rfl (g_k g_0)))))) H
    · refine tw_V ?_
      refine pw_avE (l_k l_0) (H.mono (t_bE (fun b10 S9 H => ?_)))
      exact H
theorem t_X2_huntLine_42 {E : pw_E} {d : Nat} {w0 : pw_W} {m : Nat} {S : tw_S} {Post : pw_R → pw_W → Prop} (hm : pw_base E ≤ m) (v1 : Int64) (v4 : Int) (H : pw_Cl E m_X2_token d [va_rf (some m)] (tw w0 m S) (c_v (t_u w0 m (fun S1 => pw_Cl E m_X2_take d [va_rf (some m), .int (iI 1), .int (iI 0), .int (iI 3)] (tw w0 m S1) (c_z (t_b w0 m (fun b3 S2 => (if b3 = true then pw_Cl E m_X2_take d [va_rf (some m), .int (iI 2), .int (iI 0), .int (iI 9)] (tw w0 m S2) (c_z (t_b w0 m (fun b5 S4 => (if b5 = true then (if (Int32.toInt (lg_cmp v1 26990)) = 0 then pw_Wp E m_X2_huntLine (d + 1) 91 [some (va_rf (some m)), none, none, none, some (.int (iI v4)), some (.int (iI 0))] [] (tw w0 m (tw_sa S4 10 0 1)) Post else pw_Wp E m_X2_huntLine (d + 1) 91 [some (va_rf (some m)), none, none, none, some (.int (iI v4)), some (.int (iI 0))] [] (tw w0 m (tw_sa S4 10 0 0)) Post) else Post (.inl (some (.int (iI 0)))) (tw w0 m S4))))) else Post (.inl (some (.int (iI 0)))) (tw w0 m S2))))))))) : pw_Wp E m_X2_huntLine (d + 1) 42 [some (va_rf (some m)), some (.long v1), none, none, some (.int (iI v4)), none] [] (tw w0 m S) Post := by
  refine s_X2_huntLine_42 (some m) v1 (iI v4) ?_
  refine tw_V ?_
  refine pw_avE (l_k l_0) (H.mono (t_uE (fun S1 H => ?_)))
  refine tw_V ?_
  refine pw_avE (l_k (l_i rfl (l_i rfl (l_i rfl l_0)))) (H.mono (t_bE (fun b3 S2 H => ?_)))
  refine f_bE H (fun H => ?_) (fun H => ?_)
  · exact c_pi rfl H
  · refine tw_V ?_
    refine pw_avE (l_k (l_i rfl (l_i rfl (l_i rfl l_0)))) (H.mono (t_bE (fun b5 S4 H => ?_)))
    refine f_bE H (fun H => ?_) (fun H => ?_)
    · exact c_pi rfl H
    · refine tw_getr rfl ?_
      refine f_eqE (s := (Int32.toInt (lg_cmp v1 26990))) (t := 0) (iI_oE _) rfl (rI_of _) (by constructor <;> decide) H (fun H => ?_) (fun H => ?_)
      · refine tw_asti (k := 10) (t := 0) (x := 1) hm rfl rfl (by decide) (by decide) rfl ?_
        exact pw_eqL (g_k (g_k (g_k (g_k (g_i rfl (g_i rfl g_0)))))) H
      · refine tw_asti (k := 10) (t := 0) (x := 0) hm rfl rfl (by decide) (by decide) rfl ?_
        exact pw_eqL (g_k (g_k (g_k (g_k (g_i rfl (g_i rfl g_0)))))) H
theorem t_X2_huntLine_91 {E : pw_E} {d : Nat} {w0 : pw_W} {m : Nat} {S : tw_S} {Post : pw_R → pw_W → Prop} (hm : pw_base E ≤ m) (v4 : Int) (v5 : Int) (H : (rI v5 ∧ if (3 : Int) ≤ v5 then pw_Cl E m_X2_lesser d [.int (iI 8), .int (iI (v4 + 1))] (tw w0 m S) (c_i (t_i w0 m (fun z2 S1 => Post (.inl (some (.int (iI 1)))) (tw w0 m (tw_sa S1 9 0 z2))))) else (rI v4 ∧ if (8 : Int) ≤ v4 then pw_Cl E m_X2_lesser d [.int (iI 8), .int (iI (v4 + 1))] (tw w0 m S) (c_i (t_i w0 m (fun z6 S5 => Post (.inl (some (.int (iI 1)))) (tw w0 m (tw_sa S5 9 0 z6))))) else ((0 : Int) ≤ v5 ∧ v5 < 4 ∧ ((0 : Int) ≤ ((1 + (3 * v4)) + v5) ∧ ((1 + (3 * v4)) + v5) < 1526 ∧ pw_Wp E m_X2_huntLine (d + 1) 91 [some (va_rf (some m)), none, none, none, some (.int (iI v4)), some (.int (iI (v5 + 1)))] [] (tw w0 m (tw_sa S 9 (Int.toNat ((1 + (3 * v4)) + v5)) (S.2.2 10 (Int.toNat v5)))) Post))))) : pw_Wp E m_X2_huntLine (d + 1) 91 [some (va_rf (some m)), none, none, none, some (.int (iI v4)), some (.int (iI v5))] [] (tw w0 m S) Post := by
  refine s_X2_huntLine_91 (some m) (iI v4) (iI v5) ?_
  obtain ⟨h14, H⟩ := H
  refine f_leE (s := 3) (t := v5) rfl rfl (by constructor <;> decide) h14 H (fun H => ?_) (fun H => ?_)
  · refine tw_getr rfl ?_
    refine pw_avE (l_i rfl (l_i (iI_addE rfl rfl) l_0)) (H.mono (t_iE (fun z2 S1 H => ?_)))
    refine tw_asti (k := 9) (t := 0) (x := z2) hm rfl rfl (by decide) (by decide) rfl ?_
    exact c_pi rfl H
  · obtain ⟨h13, H⟩ := H
    refine f_leE (s := 8) (t := v4) rfl rfl (by constructor <;> decide) h13 H (fun H => ?_) (fun H => ?_)
    · refine tw_getr rfl ?_
      refine pw_avE (l_i rfl (l_i (iI_addE rfl rfl) l_0)) (H.mono (t_iE (fun z6 S5 H => ?_)))
      refine tw_asti (k := 9) (t := 0) (x := z6) hm rfl rfl (by decide) (by decide) rfl ?_
      exact c_pi rfl H
    · refine tw_getr rfl ?_
      refine tw_getr rfl ?_
      obtain ⟨h9, h10, H⟩ := H
      refine tw_aldi (k := 10) (t := v5) rfl rfl h9 h10 ?_
      obtain ⟨h11, h12, H⟩ := H
      refine tw_asti (k := 9) (t := ((1 + (3 * v4)) + v5)) (x := (S.2.2 10 (Int.toNat v5))) hm rfl (iI_addE (iI_addE rfl (iI_mulE rfl rfl)) rfl) h11 h12 rfl ?_
      exact pw_eqL (g_k (g_k (g_k (g_k (g_i rfl (g_i (iI_addE rfl rfl) g_0)))))) H
theorem t_X2_image_0 {E : pw_E} {d : Nat} {w0 : pw_W} {m : Nat} {S : tw_S} {Post : pw_R → pw_W → Prop} (hm : pw_base E ≤ m) (v1 : Int) (H : pw_Cl E m_X2_in d [.int (iI v1), .int (iI 0), .int (iI 2)] (tw w0 m (tw_sf S 0 0)) (c_z (t_b w0 m (fun b2 S1 => (if b2 = true then pw_Cl E m_X2_copyAll d [va_rf (some m), .int (iI 0), .int (iI (v1 + 1))] (tw w0 m S1) (c_v (t_u w0 m (fun S3 => ((0 : Int) ≤ v1 ∧ v1 < 3 ∧ ((1 : Int) = 0 ∨ (1 : Int) = 1) ∧ Post (.inl (some (.int (iI 1)))) (tw w0 m (tw_sa S3 16 (Int.toNat v1) 1)))))) else Post (.inl (some (.int (iI 0)))) (tw w0 m S1)))))) : pw_Wp E m_X2_image (d + 1) 0 [some (va_rf (some m)), some (.int (iI v1))] [] (tw w0 m S) Post := by
  refine s_X2_image_0 (some m) (iI v1) ?_
  refine tw_puti (x := 0) hm rfl rfl ?_
  refine pw_avE (l_i rfl (l_i rfl (l_i rfl l_0))) (H.mono (t_bE (fun b2 S1 H => ?_)))
  refine f_bE H (fun H => ?_) (fun H => ?_)
  · exact c_pi rfl H
  · refine tw_V ?_
    refine pw_avE (l_k (l_i rfl (l_i (iI_addE rfl rfl) l_0))) (H.mono (t_uE (fun S3 H => ?_)))
    refine tw_getr rfl ?_
    obtain ⟨h4, h5, h6, H⟩ := H
    refine tw_astz (t := v1) (x := 1) hm rfl h4 h5 rfl h6 ?_
    exact c_pi rfl H
theorem t_X2_implies_0 {E : pw_E} {d : Nat} {w0 : pw_W} {m : Nat} {S : tw_S} {Post : pw_R → pw_W → Prop} (hm : pw_base E ≤ m) (v1 : Int) (v2 : Int) (v3 : Int) (v4 : Int) (H : pw_Cl E m_X2_layHeld d [va_rf (some m), .int (iI v1), .int (iI v2)] (tw w0 m (tw_sf S 0 0)) (c_z (t_b w0 m (fun b2 S1 => (if b2 = true then pw_Cl E m_X2_isAsking d [va_rf (some m), .int (iI v3)] (tw w0 m S1) (c_z (t_b w0 m (fun b4 S3 => (if b4 = true then pw_Cl E m_X2_isAsking d [va_rf (some m), .int (iI v4)] (tw w0 m S3) (c_z (t_b w0 m (fun b6 S5 => (if b6 = true then pw_Cl E m_X2_isWithin d [va_rf (some m), .int (iI v3), .int (iI v4)] (tw w0 m S5) (c_z (t_b w0 m (fun b8 S7 => (if b8 = true then Post (.inl (some (.int (iI 1)))) (tw w0 m S7) else Post (.inl (some (.int (iI 0)))) (tw w0 m S7))))) else Post (.inl (some (.int (iI (-1))))) (tw w0 m S5))))) else Post (.inl (some (.int (iI (-1))))) (tw w0 m S3))))) else Post (.inl (some (.int (iI (-1))))) (tw w0 m S1)))))) : pw_Wp E m_X2_implies (d + 1) 0 [some (va_rf (some m)), some (.int (iI v1)), some (.int (iI v2)), some (.int (iI v3)), some (.int (iI v4))] [] (tw w0 m S) Post := by
  refine s_X2_implies_0 (some m) (iI v1) (iI v2) (iI v3) (iI v4) ?_
  refine tw_puti (x := 0) hm rfl rfl ?_
  refine tw_V ?_
  refine pw_avE (l_k (l_i rfl (l_i rfl l_0))) (H.mono (t_bE (fun b2 S1 H => ?_)))
  refine f_bE H (fun H => ?_) (fun H => ?_)
  · exact c_pi rfl H
  · refine tw_V ?_
    refine pw_avE (l_k (l_i rfl l_0)) (H.mono (t_bE (fun b4 S3 H => ?_)))
    refine f_bE H (fun H => ?_) (fun H => ?_)
    · exact c_pi rfl H
    · refine tw_V ?_
      refine pw_avE (l_k (l_i rfl l_0)) (H.mono (t_bE (fun b6 S5 H => ?_)))
      refine f_bE H (fun H => ?_) (fun H => ?_)
      · exact c_pi rfl H
      · refine tw_V ?_
        refine pw_avE (l_k (l_i rfl (l_i rfl l_0))) (H.mono (t_bE (fun b8 S7 H => ?_)))
        refine f_bE H (fun H => ?_) (fun H => ?_)
        · exact c_pi rfl H
        · exact c_pi rfl H
theorem t_X2_in_0 {E : pw_E} {d : Nat} {w0 : pw_W} {m : Nat} {S : tw_S} {Post : pw_R → pw_W → Prop} (hm : pw_base E ≤ m) (v0 : Int) (v1 : Int) (v2 : Int) (H : (rI v0 ∧ rI v1 ∧ if v0 < v1 then Post (.inl (some (.int (iI 0)))) (tw w0 m S) else (rI v2 ∧ rI v0 ∧ if v2 < v0 then Post (.inl (some (.int (iI 0)))) (tw w0 m S) else Post (.inl (some (.int (iI 1)))) (tw w0 m S)))) : pw_Wp E m_X2_in (d + 1) 0 [some (.int (iI v0)), some (.int (iI v1)), some (.int (iI v2))] [] (tw w0 m S) Post := by
  refine s_X2_in_0 (iI v0) (iI v1) (iI v2) ?_
  obtain ⟨h3, H⟩ := H
  obtain ⟨h4, H⟩ := H
  refine f_ltE (s := v0) (t := v1) rfl rfl h3 h4 H (fun H => ?_) (fun H => ?_)
  · exact c_pi rfl H
  · obtain ⟨h1, H⟩ := H
    obtain ⟨h2, H⟩ := H
    refine f_ltE (s := v2) (t := v0) rfl rfl h1 h2 H (fun H => ?_) (fun H => ?_)
    · exact c_pi rfl H
    · exact c_pi rfl H

theorem t_X2_is_0 {E : pw_E} {d : Nat} {w0 : pw_W} {m : Nat} {S : tw_S} {Post : pw_R → pw_W → Prop} (hm : pw_base E ≤ m) (v1 : Int) (v2 : Int) (H : ((0 : Int) ≤ v1 ∧ v1 < 12 ∧ pw_Cl E m_X2_in d [.int (iI v2), .int (iI 0), .int (iI ((S.2.2 5 (Int.toNat v1)) - 1))] (tw w0 m S) (c_z (t_b w0 m (fun b4 S3 => Post (.inl (some (.int (bI b4)))) (tw w0 m S3)))))) : pw_Wp E m_X2_is (d + 1) 0 [some (va_rf (some m)), some (.int (iI v1)), some (.int (iI v2))] [] (tw w0 m S) Post := by
  refine s_X2_is_0 (some m) (iI v1) (iI v2) ?_
  refine tw_getr rfl ?_
  obtain ⟨h1, h2, H⟩ := H
  refine tw_aldi (k := 5) (t := v1) rfl rfl h1 h2 ?_
  refine pw_avE (l_i rfl (l_i rfl (l_i (iI_subE rfl rfl) l_0))) (H.mono (t_bE (fun b4 S3 H => ?_)))
  exact H
theorem t_X2_isAsking_0 {E : pw_E} {d : Nat} {w0 : pw_W} {m : Nat} {S : tw_S} {Post : pw_R → pw_W → Prop} (hm : pw_base E ≤ m) (v1 : Int) (H : pw_Cl E m_X2_askedMany d [va_rf (some m)] (tw w0 m S) (c_i (t_i w0 m (fun z2 S1 => pw_Cl E m_X2_in d [.int (iI v1), .int (iI 0), .int (iI (z2 - 1))] (tw w0 m S1) (c_z (t_b w0 m (fun b4 S3 => Post (.inl (some (.int (bI b4)))) (tw w0 m S3)))))))) : pw_Wp E m_X2_isAsking (d + 1) 0 [some (va_rf (some m)), some (.int (iI v1))] [] (tw w0 m S) Post := by
  refine s_X2_isAsking_0 (some m) (iI v1) ?_
  refine tw_V ?_
  refine pw_avE (l_k l_0) (H.mono (t_iE (fun z2 S1 H => ?_)))
  refine pw_avE (l_i rfl (l_i rfl (l_i (iI_subE rfl rfl) l_0))) (H.mono (t_bE (fun b4 S3 H => ?_)))
  exact H
theorem t_X2_isDoc_0 {E : pw_E} {d : Nat} {w0 : pw_W} {m : Nat} {S : tw_S} {Post : pw_R → pw_W → Prop} (hm : pw_base E ≤ m) (v1 : Int) (H : pw_Cl E m_X2_in d [.int (iI v1), .int (iI 0), .int (iI ((S.2.2 9 0) - 1))] (tw w0 m S) (c_z (t_b w0 m (fun b4 S3 => Post (.inl (some (.int (bI b4)))) (tw w0 m S3))))) : pw_Wp E m_X2_isDoc (d + 1) 0 [some (va_rf (some m)), some (.int (iI v1))] [] (tw w0 m S) Post := by
  refine s_X2_isDoc_0 (some m) (iI v1) ?_
  refine tw_getr rfl ?_
  refine tw_aldi (k := 9) (t := 0) rfl rfl (by decide) (by decide) ?_
  refine pw_avE (l_i rfl (l_i rfl (l_i (iI_subE rfl rfl) l_0))) (H.mono (t_bE (fun b4 S3 H => ?_)))
  exact H
theorem t_X2_isSo_0 {E : pw_E} {d : Nat} {w0 : pw_W} {m : Nat} {S : tw_S} {Post : pw_R → pw_W → Prop} (hm : pw_base E ≤ m) (v1 : Int) (H : pw_Wp E m_X2_isSo (d + 1) 2 [some (va_rf (some m)), some (.int (iI v1)), some (.int (iI 0)), none, none, none] [] (tw w0 m S) Post) : pw_Wp E m_X2_isSo (d + 1) 0 [some (va_rf (some m)), some (.int (iI v1)), none, none, none, none] [] (tw w0 m S) Post := by
  refine s_X2_isSo_0 (some m) (iI v1) ?_
  exact pw_eqL (g_k (g_i rfl (g_i rfl (g_k (g_k (g_k g_0)))))) H
theorem t_X2_isSo_2 {E : pw_E} {d : Nat} {w0 : pw_W} {m : Nat} {S : tw_S} {Post : pw_R → pw_W → Prop} (hm : pw_base E ≤ m) (v1 : Int) (v2 : Int) (H : pw_Cl E m_X2_facts d [va_rf (some m)] (tw w0 m S) (c_i (t_i w0 m (fun z2 S1 => (rI z2 ∧ rI v2 ∧ if z2 ≤ v2 then Post (.inl (some (.int (iI 1)))) (tw w0 m S1) else pw_Cl E m_X2_factOf d [va_rf (some m), .int (iI v2), .int (iI 1)] (tw w0 m S1) (c_i (t_i w0 m (fun z4 S3 => pw_Cl E m_X2_factOf d [va_rf (some m), .int (iI v2), .int (iI 2)] (tw w0 m S3) (c_i (t_i w0 m (fun z6 S5 => pw_Cl E m_X2_isVersion d [va_rf (some m), .int (iI z4), .int (iI z6)] (tw w0 m S5) (c_z (t_b w0 m (fun b8 S7 => (if b8 = true then pw_Cl E m_X2_timesIn d [va_rf (some m), .int (iI z4), .int (iI z6), .int (iI v1)] (tw w0 m S7) (c_i (t_i w0 m (fun z13 S12 => (rI z13 ∧ if z13 ≤ 0 then pw_Cl E m_X2_factOf d [va_rf (some m), .int (iI v2), .int (iI 0)] (tw w0 m S12) (c_i (t_i w0 m (fun z15 S14 => (rI z15 ∧ if z15 = 1 then Post (.inl (some (.int (iI 0)))) (tw w0 m S14) else pw_Wp E m_X2_isSo (d + 1) 2 [some (va_rf (some m)), some (.int (iI v1)), some (.int (iI (v2 + 1))), none, none, none] [] (tw w0 m S14) Post)))) else pw_Cl E m_X2_factOf d [va_rf (some m), .int (iI v2), .int (iI 0)] (tw w0 m S12) (c_i (t_i w0 m (fun z18 S17 => (rI z18 ∧ if z18 = 1 then pw_Wp E m_X2_isSo (d + 1) 2 [some (va_rf (some m)), some (.int (iI v1)), some (.int (iI (v2 + 1))), none, none, none] [] (tw w0 m S17) Post else Post (.inl (some (.int (iI 0)))) (tw w0 m S17))))))))) else pw_Cl E m_X2_factOf d [va_rf (some m), .int (iI v2), .int (iI 0)] (tw w0 m S7) (c_i (t_i w0 m (fun z10 S9 => (rI z10 ∧ if z10 = 1 then Post (.inl (some (.int (iI 0)))) (tw w0 m S9) else pw_Wp E m_X2_isSo (d + 1) 2 [some (va_rf (some m)), some (.int (iI v1)), some (.int (iI (v2 + 1))), none, none, none] [] (tw w0 m S9) Post))))))))))))))))))) : pw_Wp E m_X2_isSo (d + 1) 2 [some (va_rf (some m)), some (.int (iI v1)), some (.int (iI v2)), none, none, none] [] (tw w0 m S) Post := by
  refine s_X2_isSo_2 (some m) (iI v1) (iI v2) ?_
  refine tw_V ?_
  refine pw_avE (l_k l_0) (H.mono (t_iE (fun z2 S1 H => ?_)))
  obtain ⟨h21, H⟩ := H
  obtain ⟨h22, H⟩ := H
  refine f_leE (s := z2) (t := v2) rfl rfl h21 h22 H (fun H => ?_) (fun H => ?_)
  · exact c_pi rfl H
  · refine tw_V ?_
    refine pw_avE (l_k (l_i rfl (l_i rfl l_0))) (H.mono (t_iE (fun z4 S3 H => ?_)))
    refine tw_V ?_
    refine pw_avE (l_k (l_i rfl (l_i rfl l_0))) (H.mono (t_iE (fun z6 S5 H => ?_)))
    refine tw_V ?_
    refine pw_avE (l_k (l_i rfl (l_i rfl l_0))) (H.mono (t_bE (fun b8 S7 H => ?_)))
    refine f_bE H (fun H => ?_) (fun H => ?_)
    · refine tw_V ?_
      refine pw_avE (l_k (l_i rfl (l_i rfl l_0))) (H.mono (t_iE (fun z10 S9 H => ?_)))
      obtain ⟨h11, H⟩ := H
      refine f_eqE (s := z10) (t := 1) rfl rfl h11 (by constructor <;> decide) H (fun H => ?_) (fun H => ?_)
      · exact c_pi rfl H
      · exact pw_eqL (g_k (g_i rfl (g_i (iI_addE rfl rfl) (g_k (g_k (g_k g_0)))))) H
    · refine tw_V ?_
      refine pw_avE (l_k (l_i rfl (l_i rfl (l_i rfl l_0)))) (H.mono (t_iE (fun z13 S12 H => ?_)))
      obtain ⟨h20, H⟩ := H
      refine f_leE (s := z13) (t := 0) rfl rfl h20 (by constructor <;> decide) H (fun H => ?_) (fun H => ?_)
      · refine tw_V ?_
        refine pw_avE (l_k (l_i rfl (l_i rfl l_0))) (H.mono (t_iE (fun z15 S14 H => ?_)))
        obtain ⟨h16, H⟩ := H
        refine f_eqE (s := z15) (t := 1) rfl rfl h16 (by constructor <;> decide) H (fun H => ?_) (fun H => ?_)
        · exact c_pi rfl H
        · exact pw_eqL (g_k (g_i rfl (g_i (iI_addE rfl rfl) (g_k (g_k (g_k g_0)))))) H
      · refine tw_V ?_
        refine pw_avE (l_k (l_i rfl (l_i rfl l_0))) (H.mono (t_iE (fun z18 S17 H => ?_)))
        obtain ⟨h19, H⟩ := H
        refine f_eqE (s := z18) (t := 1) rfl rfl h19 (by constructor <;> decide) H (fun H => ?_) (fun H => ?_)
        · exact pw_eqL (g_k (g_i rfl (g_i (iI_addE rfl rfl) (g_k (g_k (g_k g_0)))))) H
        · exact c_pi rfl H
theorem t_X2_isThere_0 {E : pw_E} {d : Nat} {w0 : pw_W} {m : Nat} {S : tw_S} {Post : pw_R → pw_W → Prop} (hm : pw_base E ≤ m) (v1 : Int) (H : pw_Cl E m_X2_latest d [va_rf (some m), .int (iI (S.2.2 10 0))] (tw w0 m S) (c_i (t_i w0 m (fun z4 S3 => ((0 : Int) ≤ (46 + z4) ∧ (46 + z4) < 1526 ∧ (rI v1 ∧ if v1 = 0 then (rI (S3.2.2 9 (Int.toNat (46 + z4))) ∧ rI (S3.2.2 10 1) ∧ if (S3.2.2 9 (Int.toNat (46 + z4))) < (S3.2.2 10 1) then Post (.inl (some (.int (iI 0)))) (tw w0 m S3) else Post (.inl (some (.int (iI 1)))) (tw w0 m S3)) else (rI v1 ∧ if v1 = 1 then (rI (S3.2.2 9 (Int.toNat (46 + z4))) ∧ rI ((S3.2.2 10 1) + (S3.2.2 10 2)) ∧ if (S3.2.2 9 (Int.toNat (46 + z4))) < ((S3.2.2 10 1) + (S3.2.2 10 2)) then Post (.inl (some (.int (iI 0)))) (tw w0 m S3) else Post (.inl (some (.int (iI 1)))) (tw w0 m S3)) else (rI v1 ∧ if v1 = 2 then (rI (S3.2.2 9 (Int.toNat (46 + z4))) ∧ rI (S3.2.2 10 1) ∧ if (S3.2.2 9 (Int.toNat (46 + z4))) ≤ (S3.2.2 10 1) then Post (.inl (some (.int (iI 0)))) (tw w0 m S3) else (rI (S3.2.2 9 (Int.toNat (46 + z4))) ∧ rI (S3.2.2 10 2) ∧ if (S3.2.2 9 (Int.toNat (46 + z4))) ≤ (S3.2.2 10 2) then Post (.inl (some (.int (iI 0)))) (tw w0 m S3) else Post (.inl (some (.int (iI 1)))) (tw w0 m S3))) else ((0 : Int) ≤ (1 + (S3.2.2 10 0)) ∧ (1 + (S3.2.2 10 0)) < 1526 ∧ (rI (S3.2.2 9 (Int.toNat (1 + (S3.2.2 10 0)))) ∧ rI (S3.2.2 10 1) ∧ if (S3.2.2 9 (Int.toNat (1 + (S3.2.2 10 0)))) ≤ (S3.2.2 10 1) then Post (.inl (some (.int (iI 0)))) (tw w0 m S3) else Post (.inl (some (.int (iI 1)))) (tw w0 m S3))))))))))) : pw_Wp E m_X2_isThere (d + 1) 0 [some (va_rf (some m)), some (.int (iI v1)), none] [] (tw w0 m S) Post := by
  refine s_X2_isThere_0 (some m) (iI v1) ?_
  refine tw_getr rfl ?_
  refine tw_getr rfl ?_
  refine tw_aldi (k := 10) (t := 0) rfl rfl (by decide) (by decide) ?_
  refine tw_V ?_
  refine pw_avE (l_k (l_i rfl l_0)) (H.mono (t_iE (fun z4 S3 H => ?_)))
  obtain ⟨h5, h6, H⟩ := H
  refine tw_aldi (k := 9) (t := (46 + z4)) rfl (iI_addE rfl rfl) h5 h6 ?_
  obtain ⟨h35, H⟩ := H
  refine f_eqE (s := v1) (t := 0) rfl rfl h35 (by constructor <;> decide) H (fun H => ?_) (fun H => ?_)
  · refine tw_getr rfl ?_
    refine tw_aldi (k := 10) (t := 1) rfl rfl (by decide) (by decide) ?_
    obtain ⟨h9, H⟩ := H
    obtain ⟨h10, H⟩ := H
    refine f_ltE (s := (S3.2.2 9 (Int.toNat (46 + z4)))) (t := (S3.2.2 10 1)) rfl rfl h9 h10 H (fun H => ?_) (fun H => ?_)
    · exact c_pi rfl H
    · exact c_pi rfl H
  · obtain ⟨h34, H⟩ := H
    refine f_eqE (s := v1) (t := 1) rfl rfl h34 (by constructor <;> decide) H (fun H => ?_) (fun H => ?_)
    · refine tw_getr rfl ?_
      refine tw_aldi (k := 10) (t := 1) rfl rfl (by decide) (by decide) ?_
      refine tw_getr rfl ?_
      refine tw_aldi (k := 10) (t := 2) rfl rfl (by decide) (by decide) ?_
      obtain ⟨h15, H⟩ := H
      obtain ⟨h16, H⟩ := H
      refine f_ltE (s := (S3.2.2 9 (Int.toNat (46 + z4)))) (t := ((S3.2.2 10 1) + (S3.2.2 10 2))) rfl (iI_addE rfl rfl) h15 h16 H (fun H => ?_) (fun H => ?_)
      · exact c_pi rfl H
      · exact c_pi rfl H
    · obtain ⟨h33, H⟩ := H
      refine f_eqE (s := v1) (t := 2) rfl rfl h33 (by constructor <;> decide) H (fun H => ?_) (fun H => ?_)
      · refine tw_getr rfl ?_
        refine tw_aldi (k := 10) (t := 1) rfl rfl (by decide) (by decide) ?_
        obtain ⟨h23, H⟩ := H
        obtain ⟨h24, H⟩ := H
        refine f_leE (s := (S3.2.2 9 (Int.toNat (46 + z4)))) (t := (S3.2.2 10 1)) rfl rfl h23 h24 H (fun H => ?_) (fun H => ?_)
        · exact c_pi rfl H
        · refine tw_getr rfl ?_
          refine tw_aldi (k := 10) (t := 2) rfl rfl (by decide) (by decide) ?_
          obtain ⟨h21, H⟩ := H
          obtain ⟨h22, H⟩ := H
          refine f_leE (s := (S3.2.2 9 (Int.toNat (46 + z4)))) (t := (S3.2.2 10 2)) rfl rfl h21 h22 H (fun H => ?_) (fun H => ?_)
          · exact c_pi rfl H
          · exact c_pi rfl H
      · refine tw_getr rfl ?_
        refine tw_aldi (k := 10) (t := 1) rfl rfl (by decide) (by decide) ?_
        refine tw_getr rfl ?_
        refine tw_getr rfl ?_
        refine tw_aldi (k := 10) (t := 0) rfl rfl (by decide) (by decide) ?_
        obtain ⟨h29, h30, H⟩ := H
        refine tw_aldi (k := 9) (t := (1 + (S3.2.2 10 0))) rfl (iI_addE rfl rfl) h29 h30 ?_
        obtain ⟨h31, H⟩ := H
        obtain ⟨h32, H⟩ := H
        refine f_leE (s := (S3.2.2 9 (Int.toNat (1 + (S3.2.2 10 0))))) (t := (S3.2.2 10 1)) rfl rfl h31 h32 H (fun H => ?_) (fun H => ?_)
        · exact c_pi rfl H
        · exact c_pi rfl H
theorem t_X2_isVersion_0 {E : pw_E} {d : Nat} {w0 : pw_W} {m : Nat} {S : tw_S} {Post : pw_R → pw_W → Prop} (hm : pw_base E ≤ m) (v1 : Int) (v2 : Int) (H : pw_Cl E m_X2_isDoc d [va_rf (some m), .int (iI v1)] (tw w0 m S) (c_z (t_b w0 m (fun b2 S1 => (if b2 = true then pw_Cl E m_X2_versions d [va_rf (some m), .int (iI v1)] (tw w0 m S1) (c_i (t_i w0 m (fun z4 S3 => pw_Cl E m_X2_in d [.int (iI v2), .int (iI 0), .int (iI (z4 - 1))] (tw w0 m S3) (c_z (t_b w0 m (fun b6 S5 => (if b6 = true then Post (.inl (some (.int (iI 1)))) (tw w0 m S5) else Post (.inl (some (.int (iI 0)))) (tw w0 m S5)))))))) else Post (.inl (some (.int (iI 0)))) (tw w0 m S1)))))) : pw_Wp E m_X2_isVersion (d + 1) 0 [some (va_rf (some m)), some (.int (iI v1)), some (.int (iI v2))] [] (tw w0 m S) Post := by
  refine s_X2_isVersion_0 (some m) (iI v1) (iI v2) ?_
  refine tw_V ?_
  refine pw_avE (l_k (l_i rfl l_0)) (H.mono (t_bE (fun b2 S1 H => ?_)))
  refine f_bE H (fun H => ?_) (fun H => ?_)
  · exact c_pi rfl H
  · refine tw_V ?_
    refine pw_avE (l_k (l_i rfl l_0)) (H.mono (t_iE (fun z4 S3 H => ?_)))
    refine pw_avE (l_i rfl (l_i rfl (l_i (iI_subE rfl rfl) l_0))) (H.mono (t_bE (fun b6 S5 H => ?_)))
    refine f_bE H (fun H => ?_) (fun H => ?_)
    · exact c_pi rfl H
    · exact c_pi rfl H
theorem t_X2_isWithin_0 {E : pw_E} {d : Nat} {w0 : pw_W} {m : Nat} {S : tw_S} {Post : pw_R → pw_W → Prop} (hm : pw_base E ≤ m) (v1 : Int) (v2 : Int) (H : pw_Wp E m_X2_isWithin (d + 1) 5 [some (va_rf (some m)), some (.int (iI v1)), some (.int (iI v2)), some (.int (iI 1)), some (.int (iI 0))] [] (tw w0 m S) Post) : pw_Wp E m_X2_isWithin (d + 1) 0 [some (va_rf (some m)), some (.int (iI v1)), some (.int (iI v2)), none, none] [] (tw w0 m S) Post := by
  refine s_X2_isWithin_0 (some m) (iI v1) (iI v2) ?_
  exact pw_eqL (g_k (g_i rfl (g_i rfl (g_i rfl (g_i rfl g_0))))) H
theorem t_X2_isWithin_5 {E : pw_E} {d : Nat} {w0 : pw_W} {m : Nat} {S : tw_S} {Post : pw_R → pw_W → Prop} (hm : pw_base E ≤ m) (v1 : Int) (v2 : Int) (v3 : Int) (v4 : Int) (H : (rI (S.2.2 9 0) ∧ rI v4 ∧ if (S.2.2 9 0) ≤ v4 then ((v3 = (0 : Int) ∨ v3 = (1 : Int)) ∧ Post (.inl (some (.int (iI v3)))) (tw w0 m S)) else (rI v3 ∧ if v3 = 0 then pw_Wp E m_X2_isWithin (d + 1) 5 [some (va_rf (some m)), some (.int (iI v1)), some (.int (iI v2)), some (.int (iI 0)), some (.int (iI (v4 + 1)))] [] (tw w0 m S) Post else ((0 : Int) ≤ ((4 * v1) + v4) ∧ ((4 * v1) + v4) < 32 ∧ ((0 : Int) ≤ ((4 * v2) + v4) ∧ ((4 * v2) + v4) < 32 ∧ (if (Int32.toInt ((iI (S.2.2 14 (Int.toNat ((4 * v1) + v4)))) &&& ((iI (S.2.2 14 (Int.toNat ((4 * v2) + v4)))) ^^^ (-1)))) = 0 then pw_Wp E m_X2_isWithin (d + 1) 5 [some (va_rf (some m)), some (.int (iI v1)), some (.int (iI v2)), some (.int (iI 1)), some (.int (iI (v4 + 1)))] [] (tw w0 m S) Post else pw_Wp E m_X2_isWithin (d + 1) 5 [some (va_rf (some m)), some (.int (iI v1)), some (.int (iI v2)), some (.int (iI 0)), some (.int (iI (v4 + 1)))] [] (tw w0 m S) Post)))))) : pw_Wp E m_X2_isWithin (d + 1) 5 [some (va_rf (some m)), some (.int (iI v1)), some (.int (iI v2)), some (.int (iI v3)), some (.int (iI v4))] [] (tw w0 m S) Post := by
  refine s_X2_isWithin_5 (some m) (iI v1) (iI v2) (iI v3) (iI v4) ?_
  refine tw_getr rfl ?_
  refine tw_aldi (k := 9) (t := 0) rfl rfl (by decide) (by decide) ?_
  obtain ⟨h9, H⟩ := H
  obtain ⟨h10, H⟩ := H
  refine f_leE (s := (S.2.2 9 0)) (t := v4) rfl rfl h9 h10 H (fun H => ?_) (fun H => ?_)
  · obtain ⟨h3, H⟩ := H
    exact ⟨nar_01 rfl h3, c_pi rfl H⟩
  · obtain ⟨h8, H⟩ := H
    refine f_eqE (s := v3) (t := 0) rfl rfl h8 (by constructor <;> decide) H (fun H => ?_) (fun H => ?_)
    · exact pw_eqL (g_k (g_i rfl (g_i rfl (g_i rfl (g_i (iI_addE rfl rfl) g_0))))) H
    · refine tw_getr rfl ?_
      obtain ⟨h4, h5, H⟩ := H
      refine tw_aldi (k := 14) (t := ((4 * v1) + v4)) rfl (iI_addE (iI_mulE rfl rfl) rfl) h4 h5 ?_
      refine tw_getr rfl ?_
      obtain ⟨h6, h7, H⟩ := H
      refine tw_aldi (k := 14) (t := ((4 * v2) + v4)) rfl (iI_addE (iI_mulE rfl rfl) rfl) h6 h7 ?_
      refine f_eqE (s := (Int32.toInt ((iI (S.2.2 14 (Int.toNat ((4 * v1) + v4)))) &&& ((iI (S.2.2 14 (Int.toNat ((4 * v2) + v4)))) ^^^ (-1))))) (t := 0) (iI_oE _) rfl (rI_of _) (by constructor <;> decide) H (fun H => ?_) (fun H => ?_)
      · exact pw_eqL (g_k (g_i rfl (g_i rfl (g_i rfl (g_i (iI_addE rfl rfl) g_0))))) H
      · exact pw_eqL (g_k (g_i rfl (g_i rfl (g_i rfl (g_i (iI_addE rfl rfl) g_0))))) H
theorem t_X2_keptIn_0 {E : pw_E} {d : Nat} {w0 : pw_W} {m : Nat} {S : tw_S} {Post : pw_R → pw_W → Prop} (hm : pw_base E ≤ m) (v1 : Int) (H : pw_Wp E m_X2_keptIn (d + 1) 4 [some (va_rf (some m)), some (.int (iI v1)), some (.int (iI 0)), some (.int (iI 0))] [] (tw w0 m S) Post) : pw_Wp E m_X2_keptIn (d + 1) 0 [some (va_rf (some m)), some (.int (iI v1)), none, none] [] (tw w0 m S) Post := by
  refine s_X2_keptIn_0 (some m) (iI v1) ?_
  exact pw_eqL (g_k (g_i rfl (g_i rfl (g_i rfl g_0)))) H
theorem t_X2_keptIn_4 {E : pw_E} {d : Nat} {w0 : pw_W} {m : Nat} {S : tw_S} {Post : pw_R → pw_W → Prop} (hm : pw_base E ≤ m) (v1 : Int) (v2 : Int) (v3 : Int) (H : (rI (S.1 24) ∧ rI v3 ∧ if (S.1 24) ≤ v3 then Post (.inl (some (.int (iI v2)))) (tw w0 m S) else ((0 : Int) ≤ (1206 + v3) ∧ (1206 + v3) < 1526 ∧ (rI (S.2.2 9 (Int.toNat (1206 + v3))) ∧ rI v1 ∧ if (S.2.2 9 (Int.toNat (1206 + v3))) = v1 then pw_Cl E m_X2_whereIs d [va_rf (some m), .int (iI v3)] (tw w0 m S) (c_i (t_i w0 m (fun z4 S3 => pw_Cl E m_X2_ones d [.int (iI z4)] (tw w0 m S3) (c_i (t_i w0 m (fun z6 S5 => pw_Cl E m_X2_versions d [va_rf (some m), .int (iI v1)] (tw w0 m S5) (c_i (t_i w0 m (fun z8 S7 => (rI z6 ∧ rI z8 ∧ if z6 = z8 then pw_Wp E m_X2_keptIn (d + 1) 4 [some (va_rf (some m)), some (.int (iI v1)), some (.int (iI (v2 + 1))), some (.int (iI (v3 + 1)))] [] (tw w0 m S7) Post else pw_Wp E m_X2_keptIn (d + 1) 4 [some (va_rf (some m)), some (.int (iI v1)), some (.int (iI (v2 + 0))), some (.int (iI (v3 + 1)))] [] (tw w0 m S7) Post)))))))))) else pw_Wp E m_X2_keptIn (d + 1) 4 [some (va_rf (some m)), some (.int (iI v1)), some (.int (iI (v2 + 0))), some (.int (iI (v3 + 1)))] [] (tw w0 m S) Post)))) : pw_Wp E m_X2_keptIn (d + 1) 4 [some (va_rf (some m)), some (.int (iI v1)), some (.int (iI v2)), some (.int (iI v3))] [] (tw w0 m S) Post := by
  refine s_X2_keptIn_4 (some m) (iI v1) (iI v2) (iI v3) ?_
  refine tw_geti rfl ?_
  obtain ⟨h13, H⟩ := H
  obtain ⟨h14, H⟩ := H
  refine f_leE (s := (S.1 24)) (t := v3) rfl rfl h13 h14 H (fun H => ?_) (fun H => ?_)
  · exact c_pi rfl H
  · refine tw_getr rfl ?_
    obtain ⟨h1, h2, H⟩ := H
    refine tw_aldi (k := 9) (t := (1206 + v3)) rfl (iI_addE rfl rfl) h1 h2 ?_
    obtain ⟨h11, H⟩ := H
    obtain ⟨h12, H⟩ := H
    refine f_eqE (s := (S.2.2 9 (Int.toNat (1206 + v3)))) (t := v1) rfl rfl h11 h12 H (fun H => ?_) (fun H => ?_)
    · refine tw_V ?_
      refine pw_avE (l_k (l_i rfl l_0)) (H.mono (t_iE (fun z4 S3 H => ?_)))
      refine pw_avE (l_i rfl l_0) (H.mono (t_iE (fun z6 S5 H => ?_)))
      refine tw_V ?_
      refine pw_avE (l_k (l_i rfl l_0)) (H.mono (t_iE (fun z8 S7 H => ?_)))
      obtain ⟨h9, H⟩ := H
      obtain ⟨h10, H⟩ := H
      refine f_eqE (s := z6) (t := z8) rfl rfl h9 h10 H (fun H => ?_) (fun H => ?_)
      · exact pw_eqL (g_k (g_i rfl (g_i (iI_addE rfl rfl) (g_i (iI_addE rfl rfl) g_0)))) H
      · exact pw_eqL (g_k (g_i rfl (g_i (iI_addE rfl rfl) (g_i (iI_addE rfl rfl) g_0)))) H
    · exact pw_eqL (g_k (g_i rfl (g_i (iI_addE rfl rfl) (g_i (iI_addE rfl rfl) g_0)))) H
theorem t_X2_lastIn_0 {E : pw_E} {d : Nat} {w0 : pw_W} {m : Nat} {S : tw_S} {Post : pw_R → pw_W → Prop} (hm : pw_base E ≤ m) (v0 : Int) (H : pw_Wp E m_X2_lastIn (d + 1) 4 [some (.int (iI v0)), some (.int (iI (-1))), some (.int (iI 0))] [] (tw w0 m S) Post) : pw_Wp E m_X2_lastIn (d + 1) 0 [some (.int (iI v0)), none, none] [] (tw w0 m S) Post := by
  refine s_X2_lastIn_0 (iI v0) ?_
  exact pw_eqL (g_i rfl (g_i rfl (g_i rfl g_0))) H
theorem t_X2_lastIn_4 {E : pw_E} {d : Nat} {w0 : pw_W} {m : Nat} {S : tw_S} {Post : pw_R → pw_W → Prop} (hm : pw_base E ≤ m) (v0 : Int) (v1 : Int) (v2 : Int) (H : (rI v2 ∧ if (10 : Int) ≤ v2 then Post (.inl (some (.int (iI v1)))) (tw w0 m S) else pw_Cl E m_X2_has d [.int (iI v0), .int (iI v2)] (tw w0 m S) (c_z (t_b w0 m (fun b2 S1 => (if b2 = true then pw_Wp E m_X2_lastIn (d + 1) 4 [some (.int (iI v0)), some (.int (iI v2)), some (.int (iI (v2 + 1)))] [] (tw w0 m S1) Post else pw_Wp E m_X2_lastIn (d + 1) 4 [some (.int (iI v0)), some (.int (iI v1)), some (.int (iI (v2 + 1)))] [] (tw w0 m S1) Post)))))) : pw_Wp E m_X2_lastIn (d + 1) 4 [some (.int (iI v0)), some (.int (iI v1)), some (.int (iI v2))] [] (tw w0 m S) Post := by
  refine s_X2_lastIn_4 (iI v0) (iI v1) (iI v2) ?_
  obtain ⟨h3, H⟩ := H
  refine f_leE (s := 10) (t := v2) rfl rfl (by constructor <;> decide) h3 H (fun H => ?_) (fun H => ?_)
  · exact c_pi rfl H
  · refine pw_avE (l_i rfl (l_i rfl l_0)) (H.mono (t_bE (fun b2 S1 H => ?_)))
    refine f_bE H (fun H => ?_) (fun H => ?_)
    · exact pw_eqL (g_i rfl (g_i rfl (g_i (iI_addE rfl rfl) g_0))) H
    · exact pw_eqL (g_i rfl (g_i rfl (g_i (iI_addE rfl rfl) g_0))) H
theorem t_X2_latest_0 {E : pw_E} {d : Nat} {w0 : pw_W} {m : Nat} {S : tw_S} {Post : pw_R → pw_W → Prop} (hm : pw_base E ≤ m) (v1 : Int) (H : ((0 : Int) ≤ (1 + v1) ∧ (1 + v1) < 1526 ∧ pw_Cl E m_X2_at d [.int (iI v1), .int (iI ((S.2.2 9 (Int.toNat (1 + v1))) - 1))] (tw w0 m S) (c_i (t_i w0 m (fun z4 S3 => Post (.inl (some (.int (iI z4)))) (tw w0 m S3)))))) : pw_Wp E m_X2_latest (d + 1) 0 [some (va_rf (some m)), some (.int (iI v1))] [] (tw w0 m S) Post := by
  refine s_X2_latest_0 (some m) (iI v1) ?_
  refine tw_getr rfl ?_
  obtain ⟨h1, h2, H⟩ := H
  refine tw_aldi (k := 9) (t := (1 + v1)) rfl (iI_addE rfl rfl) h1 h2 ?_
  refine pw_avE (l_i rfl (l_i (iI_subE rfl rfl) l_0)) (H.mono (t_iE (fun z4 S3 H => ?_)))
  exact c_pi rfl H
theorem t_X2_layHeld_0 {E : pw_E} {d : Nat} {w0 : pw_W} {m : Nat} {S : tw_S} {Post : pw_R → pw_W → Prop} (hm : pw_base E ≤ m) (v1 : Int) (v2 : Int) (H : pw_Cl E m_X2_hasAsking d [va_rf (some m), .int (iI v2)] (tw w0 m S) (c_z (t_b w0 m (fun b2 S1 => (if b2 = true then pw_Cl E m_X2_hand d [va_rf (some m), .int (iI v1)] (tw w0 m S1) (c_z (t_b w0 m (fun b4 S3 => (if b4 = true then pw_Wp E m_X2_layHeld (d + 1) 20 [some (va_rf (some m)), none, none, some (.int (iI 0)), none, none] [] (tw w0 m S3) Post else Post (.inl (some (.int (iI 0)))) (tw w0 m S3))))) else Post (.inl (some (.int (iI 0)))) (tw w0 m S1)))))) : pw_Wp E m_X2_layHeld (d + 1) 0 [some (va_rf (some m)), some (.int (iI v1)), some (.int (iI v2)), none, none, none] [] (tw w0 m S) Post := by
  refine s_X2_layHeld_0 (some m) (iI v1) (iI v2) ?_
  refine tw_V ?_
  refine pw_avE (l_k (l_i rfl l_0)) (H.mono (t_bE (fun b2 S1 H => ?_)))
  refine f_bE H (fun H => ?_) (fun H => ?_)
  · exact c_pi rfl H
  · refine tw_V ?_
    refine pw_avE (l_k (l_i rfl l_0)) (H.mono (t_bE (fun b4 S3 H => ?_)))
    refine f_bE H (fun H => ?_) (fun H => ?_)
    · exact c_pi rfl H
    · exact pw_eqL (g_k (g_k (g_k (g_i rfl (g_k (g_k g_0)))))) H
theorem t_X2_layHeld_20 {E : pw_E} {d : Nat} {w0 : pw_W} {m : Nat} {S : tw_S} {Post : pw_R → pw_W → Prop} (hm : pw_base E ≤ m) (v3 : Int) (H : pw_Cl E m_X2_askedMany d [va_rf (some m)] (tw w0 m S) (c_i (t_i w0 m (fun z2 S1 => (rI z2 ∧ rI v3 ∧ if z2 ≤ v3 then Post (.inl (some (.int (iI 1)))) (tw w0 m S1) else pw_Wp E m_X2_layHeld (d + 1) 31 [some (va_rf (some m)), none, none, some (.int (iI v3)), some (.int (iI 0)), none] [] (tw w0 m S1) Post))))) : pw_Wp E m_X2_layHeld (d + 1) 20 [some (va_rf (some m)), none, none, some (.int (iI v3)), none, none] [] (tw w0 m S) Post := by
  refine s_X2_layHeld_20 (some m) (iI v3) ?_
  refine tw_V ?_
  refine pw_avE (l_k l_0) (H.mono (t_iE (fun z2 S1 H => ?_)))
  obtain ⟨h3, H⟩ := H
  obtain ⟨h4, H⟩ := H
  refine f_leE (s := z2) (t := v3) rfl rfl h3 h4 H (fun H => ?_) (fun H => ?_)
  · exact c_pi rfl H
  · exact pw_eqL (g_k (g_k (g_k (g_i rfl (g_i rfl (g_k g_0)))))) H
theorem t_X2_layHeld_31 {E : pw_E} {d : Nat} {w0 : pw_W} {m : Nat} {S : tw_S} {Post : pw_R → pw_W → Prop} (hm : pw_base E ≤ m) (v3 : Int) (v4 : Int) (H : (rI v4 ∧ if (4 : Int) ≤ v4 then pw_Wp E m_X2_layHeld (d + 1) 20 [some (va_rf (some m)), none, none, some (.int (iI (v3 + 1))), none, none] [] (tw w0 m S) Post else ((0 : Int) ≤ ((4 * v3) + v4) ∧ ((4 * v3) + v4) < 32 ∧ pw_Wp E m_X2_layHeld (d + 1) 52 [some (va_rf (some m)), none, none, some (.int (iI v3)), some (.int (iI v4)), some (.int (iI 0))] [] (tw w0 m (tw_sa S 14 (Int.toNat ((4 * v3) + v4)) 0)) Post))) : pw_Wp E m_X2_layHeld (d + 1) 31 [some (va_rf (some m)), none, none, some (.int (iI v3)), some (.int (iI v4)), none] [] (tw w0 m S) Post := by
  refine s_X2_layHeld_31 (some m) (iI v3) (iI v4) ?_
  obtain ⟨h3, H⟩ := H
  refine f_leE (s := 4) (t := v4) rfl rfl (by constructor <;> decide) h3 H (fun H => ?_) (fun H => ?_)
  · exact pw_eqL (g_k (g_k (g_k (g_i (iI_addE rfl rfl) (g_k (g_k g_0)))))) H
  · refine tw_getr rfl ?_
    obtain ⟨h1, h2, H⟩ := H
    refine tw_asti (k := 14) (t := ((4 * v3) + v4)) (x := 0) hm rfl (iI_addE (iI_mulE rfl rfl) rfl) h1 h2 rfl ?_
    exact pw_eqL (g_k (g_k (g_k (g_i rfl (g_i rfl (g_i rfl g_0)))))) H
theorem t_X2_layHeld_52 {E : pw_E} {d : Nat} {w0 : pw_W} {m : Nat} {S : tw_S} {Post : pw_R → pw_W → Prop} (hm : pw_base E ≤ m) (v3 : Int) (v4 : Int) (v5 : Int) (H : pw_Cl E m_X2_isDoc d [va_rf (some m), .int (iI v4)] (tw w0 m S) (c_z (t_b w0 m (fun b2 S1 => (if b2 = true then pw_Cl E m_X2_versions d [va_rf (some m), .int (iI v4)] (tw w0 m S1) (c_i (t_i w0 m (fun z4 S3 => (rI z4 ∧ rI v5 ∧ if z4 ≤ v5 then pw_Wp E m_X2_layHeld (d + 1) 31 [some (va_rf (some m)), none, none, some (.int (iI v3)), some (.int (iI (v4 + 1))), none] [] (tw w0 m S3) Post else ((0 : Int) ≤ ((4 * v3) + v4) ∧ ((4 * v3) + v4) < 32 ∧ pw_Cl E m_X2_holdsBy d [va_rf (some m), .int (iI v3), .int (iI v4), .int (iI v5)] (tw w0 m S3) (c_z (t_b w0 m (fun b8 S7 => (if b8 = true then ((0 : Int) ≤ ((4 * v3) + v4) ∧ ((4 * v3) + v4) < 32 ∧ pw_Wp E m_X2_layHeld (d + 1) 52 [some (va_rf (some m)), none, none, some (.int (iI v3)), some (.int (iI v4)), some (.int (iI (v5 + 1)))] [] (tw w0 m (tw_sa S7 14 (Int.toNat ((4 * v3) + v4)) (Int32.toInt ((iI (S3.2.2 14 (Int.toNat ((4 * v3) + v4)))) ||| (1 <<< ((iI v5) &&& 31)))))) Post) else ((0 : Int) ≤ ((4 * v3) + v4) ∧ ((4 * v3) + v4) < 32 ∧ pw_Wp E m_X2_layHeld (d + 1) 52 [some (va_rf (some m)), none, none, some (.int (iI v3)), some (.int (iI v4)), some (.int (iI (v5 + 1)))] [] (tw w0 m (tw_sa S7 14 (Int.toNat ((4 * v3) + v4)) (Int32.toInt ((iI (S3.2.2 14 (Int.toNat ((4 * v3) + v4)))) ||| 0)))) Post)))))))))) else pw_Wp E m_X2_layHeld (d + 1) 31 [some (va_rf (some m)), none, none, some (.int (iI v3)), some (.int (iI (v4 + 1))), none] [] (tw w0 m S1) Post))))) : pw_Wp E m_X2_layHeld (d + 1) 52 [some (va_rf (some m)), none, none, some (.int (iI v3)), some (.int (iI v4)), some (.int (iI v5))] [] (tw w0 m S) Post := by
  refine s_X2_layHeld_52 (some m) (iI v3) (iI v4) (iI v5) ?_
  refine tw_V ?_
  refine pw_avE (l_k (l_i rfl l_0)) (H.mono (t_bE (fun b2 S1 H => ?_)))
  refine f_bE H (fun H => ?_) (fun H => ?_)
  · exact pw_eqL (g_k (g_k (g_k (g_i rfl (g_i (iI_addE rfl rfl) (g_k g_0)))))) H
  · refine tw_V ?_
    refine pw_avE (l_k (l_i rfl l_0)) (H.mono (t_iE (fun z4 S3 H => ?_)))
    obtain ⟨h13, H⟩ := H
    obtain ⟨h14, H⟩ := H
    refine f_leE (s := z4) (t := v5) rfl rfl h13 h14 H (fun H => ?_) (fun H => ?_)
    · exact pw_eqL (g_k (g_k (g_k (g_i rfl (g_i (iI_addE rfl rfl) (g_k g_0)))))) H
    · refine tw_getr rfl ?_
      obtain ⟨h5, h6, H⟩ := H
      refine tw_aldi (k := 14) (t := ((4 * v3) + v4)) rfl (iI_addE (iI_mulE rfl rfl) rfl) h5 h6 ?_
      refine tw_V ?_
      refine pw_avE (l_k (l_i rfl (l_i rfl (l_i rfl l_0)))) (H.mono (t_bE (fun b8 S7 H => ?_)))
      refine f_bE H (fun H => ?_) (fun H => ?_)
      · obtain ⟨h9, h10, H⟩ := H
        refine tw_asti (k := 14) (t := ((4 * v3) + v4)) (x := (Int32.toInt ((iI (S3.2.2 14 (Int.toNat ((4 * v3) + v4)))) ||| 0))) hm rfl (iI_addE (iI_mulE rfl rfl) rfl) h9 h10 (iI_oE _) ?_
        exact pw_eqL (g_k (g_k (g_k (g_i rfl (g_i rfl (g_i (iI_addE rfl rfl) g_0)))))) H
      · obtain ⟨h11, h12, H⟩ := H
        refine tw_asti (k := 14) (t := ((4 * v3) + v4)) (x := (Int32.toInt ((iI (S3.2.2 14 (Int.toNat ((4 * v3) + v4)))) ||| (1 <<< ((iI v5) &&& 31))))) hm rfl (iI_addE (iI_mulE rfl rfl) rfl) h11 h12 (iI_oE _) ?_
        exact pw_eqL (g_k (g_k (g_k (g_i rfl (g_i rfl (g_i (iI_addE rfl rfl) g_0)))))) H
theorem t_X2_layWords_0 {E : pw_E} {d : Nat} {w0 : pw_W} {m : Nat} {S : tw_S} {Post : pw_R → pw_W → Prop} (hm : pw_base E ≤ m)  (H : pw_Wp E m_X2_layWords (d + 1) 7 [some (va_rf (some m)), some (.int (iI 0)), none, none, none, none] [] (tw w0 m (tw_sf S 25 0)) Post) : pw_Wp E m_X2_layWords (d + 1) 0 [some (va_rf (some m)), none, none, none, none, none] [] (tw w0 m S) Post := by
  refine s_X2_layWords_0 (some m) ?_
  refine tw_puti (x := 0) hm rfl rfl ?_
  exact pw_eqL (g_k (g_i rfl (g_k (g_k (g_k (g_k g_0)))))) H
theorem t_X2_layWords_7 {E : pw_E} {d : Nat} {w0 : pw_W} {m : Nat} {S : tw_S} {Post : pw_R → pw_W → Prop} (hm : pw_base E ≤ m) (v1 : Int) (H : (rI (S.1 24) ∧ rI v1 ∧ if (S.1 24) ≤ v1 then Post (.inl none) (tw w0 m S) else pw_Cl E m_X2_wordOf d [va_rf (some m), .int (iI v1)] (tw w0 m S) (c_i (t_i w0 m (fun z2 S1 => pw_Wp E m_X2_layWords (d + 1) 23 [some (va_rf (some m)), some (.int (iI v1)), some (.int (iI z2)), some (.int (iI 0)), none, none] [] (tw w0 m S1) Post))))) : pw_Wp E m_X2_layWords (d + 1) 7 [some (va_rf (some m)), some (.int (iI v1)), none, none, none, none] [] (tw w0 m S) Post := by
  refine s_X2_layWords_7 (some m) (iI v1) ?_
  refine tw_geti rfl ?_
  obtain ⟨h3, H⟩ := H
  obtain ⟨h4, H⟩ := H
  refine f_leE (s := (S.1 24)) (t := v1) rfl rfl h3 h4 H (fun H => ?_) (fun H => ?_)
  · exact H
  · refine tw_V ?_
    refine pw_avE (l_k (l_i rfl l_0)) (H.mono (t_iE (fun z2 S1 H => ?_)))
    exact pw_eqL (g_k (g_i rfl (g_i rfl (g_i rfl (g_k (g_k g_0)))))) H
theorem t_X2_layWords_23 {E : pw_E} {d : Nat} {w0 : pw_W} {m : Nat} {S : tw_S} {Post : pw_R → pw_W → Prop} (hm : pw_base E ≤ m) (v1 : Int) (v2 : Int) (v3 : Int) (H : (rI (S.1 25) ∧ rI v3 ∧ if (S.1 25) ≤ v3 then (rI (S.1 25) ∧ rI v3 ∧ if (S.1 25) ≤ v3 then pw_Wp E m_X2_layWords (d + 1) 84 [some (va_rf (some m)), some (.int (iI v1)), some (.int (iI v2)), some (.int (iI v3)), some (.int (iI 0)), some (.int (iI (S.1 25)))] [] (tw w0 m S) Post else ((0 : Int) ≤ v3 ∧ v3 < 320 ∧ (rI (S.2.2 12 (Int.toNat v3)) ∧ rI v2 ∧ if (S.2.2 12 (Int.toNat v3)) = v2 then pw_Wp E m_X2_layWords (d + 1) 84 [some (va_rf (some m)), some (.int (iI v1)), some (.int (iI v2)), some (.int (iI v3)), some (.int (iI 1)), some (.int (iI (S.1 25)))] [] (tw w0 m S) Post else pw_Wp E m_X2_layWords (d + 1) 84 [some (va_rf (some m)), some (.int (iI v1)), some (.int (iI v2)), some (.int (iI v3)), some (.int (iI 0)), some (.int (iI (S.1 25)))] [] (tw w0 m S) Post))) else ((0 : Int) ≤ v3 ∧ v3 < 320 ∧ pw_Cl E m_X2_widened d [.int (iI (S.2.2 12 (Int.toNat v3)))] (tw w0 m S) (c_i (t_i w0 m (fun z10 S9 => pw_Cl E m_X2_widened d [.int (iI v2)] (tw w0 m S9) (c_i (t_i w0 m (fun z12 S11 => (rI z12 ∧ rI z10 ∧ if z12 ≤ z10 then (rI (S11.1 25) ∧ rI v3 ∧ if (S11.1 25) ≤ v3 then pw_Wp E m_X2_layWords (d + 1) 84 [some (va_rf (some m)), some (.int (iI v1)), some (.int (iI v2)), some (.int (iI v3)), some (.int (iI 0)), some (.int (iI (S11.1 25)))] [] (tw w0 m S11) Post else ((0 : Int) ≤ v3 ∧ v3 < 320 ∧ (rI (S11.2.2 12 (Int.toNat v3)) ∧ rI v2 ∧ if (S11.2.2 12 (Int.toNat v3)) = v2 then pw_Wp E m_X2_layWords (d + 1) 84 [some (va_rf (some m)), some (.int (iI v1)), some (.int (iI v2)), some (.int (iI v3)), some (.int (iI 1)), some (.int (iI (S11.1 25)))] [] (tw w0 m S11) Post else pw_Wp E m_X2_layWords (d + 1) 84 [some (va_rf (some m)), some (.int (iI v1)), some (.int (iI v2)), some (.int (iI v3)), some (.int (iI 0)), some (.int (iI (S11.1 25)))] [] (tw w0 m S11) Post))) else pw_Wp E m_X2_layWords (d + 1) 23 [some (va_rf (some m)), some (.int (iI v1)), some (.int (iI v2)), some (.int (iI (v3 + 1))), none, none] [] (tw w0 m S11) Post)))))))))) : pw_Wp E m_X2_layWords (d + 1) 23 [some (va_rf (some m)), some (.int (iI v1)), some (.int (iI v2)), some (.int (iI v3)), none, none] [] (tw w0 m S) Post := by
  refine s_X2_layWords_23 (some m) (iI v1) (iI v2) (iI v3) ?_
  refine tw_geti rfl ?_
  obtain ⟨h21, H⟩ := H
  obtain ⟨h22, H⟩ := H
  refine f_leE (s := (S.1 25)) (t := v3) rfl rfl h21 h22 H (fun H => ?_) (fun H => ?_)
  · refine tw_geti rfl ?_
    obtain ⟨h5, H⟩ := H
    obtain ⟨h6, H⟩ := H
    refine f_leE (s := (S.1 25)) (t := v3) rfl rfl h5 h6 H (fun H => ?_) (fun H => ?_)
    · refine tw_geti rfl ?_
      exact pw_eqL (g_k (g_i rfl (g_i rfl (g_i rfl (g_i rfl (g_i rfl g_0)))))) H
    · refine tw_getr rfl ?_
      obtain ⟨h1, h2, H⟩ := H
      refine tw_aldi (k := 12) (t := v3) rfl rfl h1 h2 ?_
      obtain ⟨h3, H⟩ := H
      obtain ⟨h4, H⟩ := H
      refine f_eqE (s := (S.2.2 12 (Int.toNat v3))) (t := v2) rfl rfl h3 h4 H (fun H => ?_) (fun H => ?_)
      · refine tw_geti rfl ?_
        exact pw_eqL (g_k (g_i rfl (g_i rfl (g_i rfl (g_i rfl (g_i rfl g_0)))))) H
      · refine tw_geti rfl ?_
        exact pw_eqL (g_k (g_i rfl (g_i rfl (g_i rfl (g_i rfl (g_i rfl g_0)))))) H
  · refine tw_getr rfl ?_
    obtain ⟨h7, h8, H⟩ := H
    refine tw_aldi (k := 12) (t := v3) rfl rfl h7 h8 ?_
    refine pw_avE (l_i rfl l_0) (H.mono (t_iE (fun z10 S9 H => ?_)))
    refine pw_avE (l_i rfl l_0) (H.mono (t_iE (fun z12 S11 H => ?_)))
    obtain ⟨h19, H⟩ := H
    obtain ⟨h20, H⟩ := H
    refine f_leE (s := z12) (t := z10) rfl rfl h19 h20 H (fun H => ?_) (fun H => ?_)
    · refine tw_geti rfl ?_
      obtain ⟨h17, H⟩ := H
      obtain ⟨h18, H⟩ := H
      refine f_leE (s := (S11.1 25)) (t := v3) rfl rfl h17 h18 H (fun H => ?_) (fun H => ?_)
      · refine tw_geti rfl ?_
        exact pw_eqL (g_k (g_i rfl (g_i rfl (g_i rfl (g_i rfl (g_i rfl g_0)))))) H
      · refine tw_getr rfl ?_
        obtain ⟨h13, h14, H⟩ := H
        refine tw_aldi (k := 12) (t := v3) rfl rfl h13 h14 ?_
        obtain ⟨h15, H⟩ := H
        obtain ⟨h16, H⟩ := H
        refine f_eqE (s := (S11.2.2 12 (Int.toNat v3))) (t := v2) rfl rfl h15 h16 H (fun H => ?_) (fun H => ?_)
        · refine tw_geti rfl ?_
          exact pw_eqL (g_k (g_i rfl (g_i rfl (g_i rfl (g_i rfl (g_i rfl g_0)))))) H
        · refine tw_geti rfl ?_
          exact pw_eqL (g_k (g_i rfl (g_i rfl (g_i rfl (g_i rfl (g_i rfl g_0)))))) H
    · exact pw_eqL (g_k (g_i rfl (g_i rfl (g_i (iI_addE rfl rfl) (g_k (g_k g_0)))))) H
theorem t_X2_layWords_84 {E : pw_E} {d : Nat} {w0 : pw_W} {m : Nat} {S : tw_S} {Post : pw_R → pw_W → Prop} (hm : pw_base E ≤ m) (v1 : Int) (v2 : Int) (v3 : Int) (v4 : Int) (v5 : Int) (H : (rI v5 ∧ rI v3 ∧ if v5 ≤ v3 then (rI v4 ∧ if v4 = 0 then ((0 : Int) ≤ v3 ∧ v3 < 320 ∧ (rI v4 ∧ if v4 = 0 then pw_Wp E m_X2_layWords (d + 1) 7 [some (va_rf (some m)), some (.int (iI (v1 + 1))), none, none, none, none] [] (tw w0 m (tw_sf (tw_sa S 12 (Int.toNat v3) v2) 25 ((S.1 25) + 1))) Post else pw_Wp E m_X2_layWords (d + 1) 7 [some (va_rf (some m)), some (.int (iI (v1 + 1))), none, none, none, none] [] (tw w0 m (tw_sf (tw_sa S 12 (Int.toNat v3) v2) 25 ((S.1 25) + 0))) Post)) else ((0 : Int) ≤ v3 ∧ v3 < 320 ∧ ((0 : Int) ≤ v3 ∧ v3 < 320 ∧ (rI v4 ∧ if v4 = 0 then pw_Wp E m_X2_layWords (d + 1) 7 [some (va_rf (some m)), some (.int (iI (v1 + 1))), none, none, none, none] [] (tw w0 m (tw_sf (tw_sa S 12 (Int.toNat v3) (S.2.2 12 (Int.toNat v3))) 25 ((S.1 25) + 1))) Post else pw_Wp E m_X2_layWords (d + 1) 7 [some (va_rf (some m)), some (.int (iI (v1 + 1))), none, none, none, none] [] (tw w0 m (tw_sf (tw_sa S 12 (Int.toNat v3) (S.2.2 12 (Int.toNat v3))) 25 ((S.1 25) + 0))) Post)))) else (rI v4 ∧ if v4 = 0 then ((0 : Int) ≤ (v5 - 1) ∧ (v5 - 1) < 320 ∧ ((0 : Int) ≤ v5 ∧ v5 < 320 ∧ pw_Wp E m_X2_layWords (d + 1) 84 [some (va_rf (some m)), some (.int (iI v1)), some (.int (iI v2)), some (.int (iI v3)), some (.int (iI v4)), some (.int (iI (v5 + (-1))))] [] (tw w0 m (tw_sa S 12 (Int.toNat v5) (S.2.2 12 (Int.toNat (v5 - 1))))) Post)) else (rI v4 ∧ if v4 = 0 then ((0 : Int) ≤ v3 ∧ v3 < 320 ∧ (rI v4 ∧ if v4 = 0 then pw_Wp E m_X2_layWords (d + 1) 7 [some (va_rf (some m)), some (.int (iI (v1 + 1))), none, none, none, none] [] (tw w0 m (tw_sf (tw_sa S 12 (Int.toNat v3) v2) 25 ((S.1 25) + 1))) Post else pw_Wp E m_X2_layWords (d + 1) 7 [some (va_rf (some m)), some (.int (iI (v1 + 1))), none, none, none, none] [] (tw w0 m (tw_sf (tw_sa S 12 (Int.toNat v3) v2) 25 ((S.1 25) + 0))) Post)) else ((0 : Int) ≤ v3 ∧ v3 < 320 ∧ ((0 : Int) ≤ v3 ∧ v3 < 320 ∧ (rI v4 ∧ if v4 = 0 then pw_Wp E m_X2_layWords (d + 1) 7 [some (va_rf (some m)), some (.int (iI (v1 + 1))), none, none, none, none] [] (tw w0 m (tw_sf (tw_sa S 12 (Int.toNat v3) (S.2.2 12 (Int.toNat v3))) 25 ((S.1 25) + 1))) Post else pw_Wp E m_X2_layWords (d + 1) 7 [some (va_rf (some m)), some (.int (iI (v1 + 1))), none, none, none, none] [] (tw w0 m (tw_sf (tw_sa S 12 (Int.toNat v3) (S.2.2 12 (Int.toNat v3))) 25 ((S.1 25) + 0))) Post))))))) : pw_Wp E m_X2_layWords (d + 1) 84 [some (va_rf (some m)), some (.int (iI v1)), some (.int (iI v2)), some (.int (iI v3)), some (.int (iI v4)), some (.int (iI v5))] [] (tw w0 m S) Post := by
  refine s_X2_layWords_84 (some m) (iI v1) (iI v2) (iI v3) (iI v4) (iI v5) ?_
  obtain ⟨h24, H⟩ := H
  obtain ⟨h25, H⟩ := H
  refine f_leE (s := v5) (t := v3) rfl rfl h24 h25 H (fun H => ?_) (fun H => ?_)
  · refine tw_getr rfl ?_
    obtain ⟨h9, H⟩ := H
    refine f_eqE (s := v4) (t := 0) rfl rfl h9 (by constructor <;> decide) H (fun H => ?_) (fun H => ?_)
    · obtain ⟨h1, h2, H⟩ := H
      refine tw_asti (k := 12) (t := v3) (x := v2) hm rfl rfl h1 h2 rfl ?_
      refine tw_geti rfl ?_
      obtain ⟨h3, H⟩ := H
      refine f_eqE (s := v4) (t := 0) rfl rfl h3 (by constructor <;> decide) H (fun H => ?_) (fun H => ?_)
      · refine tw_puti (x := ((S.1 25) + 1)) hm rfl (iI_addE rfl rfl) ?_
        exact pw_eqL (g_k (g_i (iI_addE rfl rfl) (g_k (g_k (g_k (g_k g_0)))))) H
      · refine tw_puti (x := ((S.1 25) + 0)) hm rfl (iI_addE rfl rfl) ?_
        exact pw_eqL (g_k (g_i (iI_addE rfl rfl) (g_k (g_k (g_k (g_k g_0)))))) H
    · refine tw_getr rfl ?_
      obtain ⟨h4, h5, H⟩ := H
      refine tw_aldi (k := 12) (t := v3) rfl rfl h4 h5 ?_
      obtain ⟨h6, h7, H⟩ := H
      refine tw_asti (k := 12) (t := v3) (x := (S.2.2 12 (Int.toNat v3))) hm rfl rfl h6 h7 rfl ?_
      refine tw_geti rfl ?_
      obtain ⟨h8, H⟩ := H
      refine f_eqE (s := v4) (t := 0) rfl rfl h8 (by constructor <;> decide) H (fun H => ?_) (fun H => ?_)
      · refine tw_puti (x := ((S.1 25) + 1)) hm rfl (iI_addE rfl rfl) ?_
        exact pw_eqL (g_k (g_i (iI_addE rfl rfl) (g_k (g_k (g_k (g_k g_0)))))) H
      · refine tw_puti (x := ((S.1 25) + 0)) hm rfl (iI_addE rfl rfl) ?_
        exact pw_eqL (g_k (g_i (iI_addE rfl rfl) (g_k (g_k (g_k (g_k g_0)))))) H
  · obtain ⟨h23, H⟩ := H
    refine f_eqE (s := v4) (t := 0) rfl rfl h23 (by constructor <;> decide) H (fun H => ?_) (fun H => ?_)
    · refine tw_getr rfl ?_
      refine tw_getr rfl ?_
      obtain ⟨h10, h11, H⟩ := H
      refine tw_aldi (k := 12) (t := (v5 - 1)) rfl (iI_subE rfl rfl) h10 h11 ?_
      obtain ⟨h12, h13, H⟩ := H
      refine tw_asti (k := 12) (t := v5) (x := (S.2.2 12 (Int.toNat (v5 - 1)))) hm rfl rfl h12 h13 rfl ?_
      exact pw_eqL (g_k (g_i rfl (g_i rfl (g_i rfl (g_i rfl (g_i (iI_addE rfl rfl) g_0)))))) H
    · refine tw_getr rfl ?_
      obtain ⟨h22, H⟩ := H
      refine f_eqE (s := v4) (t := 0) rfl rfl h22 (by constructor <;> decide) H (fun H => ?_) (fun H => ?_)
      · obtain ⟨h14, h15, H⟩ := H
        refine tw_asti (k := 12) (t := v3) (x := v2) hm rfl rfl h14 h15 rfl ?_
        refine tw_geti rfl ?_
        obtain ⟨h16, H⟩ := H
        refine f_eqE (s := v4) (t := 0) rfl rfl h16 (by constructor <;> decide) H (fun H => ?_) (fun H => ?_)
        · refine tw_puti (x := ((S.1 25) + 1)) hm rfl (iI_addE rfl rfl) ?_
          exact pw_eqL (g_k (g_i (iI_addE rfl rfl) (g_k (g_k (g_k (g_k g_0)))))) H
        · refine tw_puti (x := ((S.1 25) + 0)) hm rfl (iI_addE rfl rfl) ?_
          exact pw_eqL (g_k (g_i (iI_addE rfl rfl) (g_k (g_k (g_k (g_k g_0)))))) H
      · refine tw_getr rfl ?_
        obtain ⟨h17, h18, H⟩ := H
        refine tw_aldi (k := 12) (t := v3) rfl rfl h17 h18 ?_
        obtain ⟨h19, h20, H⟩ := H
        refine tw_asti (k := 12) (t := v3) (x := (S.2.2 12 (Int.toNat v3))) hm rfl rfl h19 h20 rfl ?_
        refine tw_geti rfl ?_
        obtain ⟨h21, H⟩ := H
        refine f_eqE (s := v4) (t := 0) rfl rfl h21 (by constructor <;> decide) H (fun H => ?_) (fun H => ?_)
        · refine tw_puti (x := ((S.1 25) + 1)) hm rfl (iI_addE rfl rfl) ?_
          exact pw_eqL (g_k (g_i (iI_addE rfl rfl) (g_k (g_k (g_k (g_k g_0)))))) H
        · refine tw_puti (x := ((S.1 25) + 0)) hm rfl (iI_addE rfl rfl) ?_
          exact pw_eqL (g_k (g_i (iI_addE rfl rfl) (g_k (g_k (g_k (g_k g_0)))))) H
theorem t_X2_lesser_0 {E : pw_E} {d : Nat} {w0 : pw_W} {m : Nat} {S : tw_S} {Post : pw_R → pw_W → Prop} (hm : pw_base E ≤ m) (v0 : Int) (v1 : Int) (H : (rI v1 ∧ rI v0 ∧ if v1 ≤ v0 then Post (.inl (some (.int (iI v1)))) (tw w0 m S) else Post (.inl (some (.int (iI v0)))) (tw w0 m S))) : pw_Wp E m_X2_lesser (d + 1) 0 [some (.int (iI v0)), some (.int (iI v1))] [] (tw w0 m S) Post := by
  refine s_X2_lesser_0 (iI v0) (iI v1) ?_
  obtain ⟨h1, H⟩ := H
  obtain ⟨h2, H⟩ := H
  refine f_leE (s := v1) (t := v0) rfl rfl h1 h2 H (fun H => ?_) (fun H => ?_)
  · exact c_pi rfl H
  · exact c_pi rfl H
theorem t_X2_life_0 {E : pw_E} {d : Nat} {w0 : pw_W} {m : Nat} {S : tw_S} {Post : pw_R → pw_W → Prop} (hm : pw_base E ≤ m) (v1 : Int) (v2 : Int) (v3 : Int) (v4 : Int) (v5 : Int) (H : pw_Cl E m_X2_hand d [va_rf (some m), .int (iI v1)] (tw w0 m (tw_sf S 0 0)) (c_z (t_b w0 m (fun b2 S1 => (if b2 = true then pw_Cl E m_X2_isVersion d [va_rf (some m), .int (iI v2), .int (iI v3)] (tw w0 m S1) (c_z (t_b w0 m (fun b4 S3 => (if b4 = true then pw_Cl E m_X2_longOf d [va_rf (some m), .int (iI v2), .int (iI v3)] (tw w0 m S3) (c_i (t_i w0 m (fun z6 S5 => pw_Cl E m_X2_in d [.int (iI v4), .int (iI 0), .int (iI (z6 - 1))] (tw w0 m S5) (c_z (t_b w0 m (fun b8 S7 => (if b8 = true then pw_Cl E m_X2_tokenAt d [va_rf (some m), .int (iI v2), .int (iI v3), .int (iI v4)] (tw w0 m S7) (c_i (t_i w0 m (fun z10 S9 => pw_Cl E m_X2_whereIs d [va_rf (some m), .int (iI z10)] (tw w0 m S9) (c_i (t_i w0 m (fun z12 S11 => (rI v5 ∧ if v5 = 0 then pw_Cl E m_X2_firstIn d [.int (iI z12)] (tw w0 m S11) (c_i (t_i w0 m (fun z14 S13 => Post (.inl (some (.int (iI z14)))) (tw w0 m S13)))) else (rI v5 ∧ if v5 = 1 then pw_Cl E m_X2_lastIn d [.int (iI z12)] (tw w0 m S11) (c_i (t_i w0 m (fun z16 S15 => Post (.inl (some (.int (iI z16)))) (tw w0 m S15)))) else (rI v5 ∧ if v5 = 2 then pw_Cl E m_X2_ones d [.int (iI z12)] (tw w0 m S11) (c_i (t_i w0 m (fun z18 S17 => Post (.inl (some (.int (iI z18)))) (tw w0 m S17)))) else (rI v5 ∧ if v5 = 3 then pw_Cl E m_X2_rowsIn d [.int (iI z12)] (tw w0 m S11) (c_i (t_i w0 m (fun z20 S19 => Post (.inl (some (.int (iI z20)))) (tw w0 m S19)))) else Post (.inl (some (.int (iI (-1))))) (tw w0 m S11))))))))))) else Post (.inl (some (.int (iI (-1))))) (tw w0 m S7)))))))) else Post (.inl (some (.int (iI (-1))))) (tw w0 m S3))))) else Post (.inl (some (.int (iI (-1))))) (tw w0 m S1)))))) : pw_Wp E m_X2_life (d + 1) 0 [some (va_rf (some m)), some (.int (iI v1)), some (.int (iI v2)), some (.int (iI v3)), some (.int (iI v4)), some (.int (iI v5)), none] [] (tw w0 m S) Post := by
  refine s_X2_life_0 (some m) (iI v1) (iI v2) (iI v3) (iI v4) (iI v5) ?_
  refine tw_puti (x := 0) hm rfl rfl ?_
  refine tw_V ?_
  refine pw_avE (l_k (l_i rfl l_0)) (H.mono (t_bE (fun b2 S1 H => ?_)))
  refine f_bE H (fun H => ?_) (fun H => ?_)
  · exact c_pi rfl H
  · refine tw_V ?_
    refine pw_avE (l_k (l_i rfl (l_i rfl l_0))) (H.mono (t_bE (fun b4 S3 H => ?_)))
    refine f_bE H (fun H => ?_) (fun H => ?_)
    · exact c_pi rfl H
    · refine tw_V ?_
      refine pw_avE (l_k (l_i rfl (l_i rfl l_0))) (H.mono (t_iE (fun z6 S5 H => ?_)))
      refine pw_avE (l_i rfl (l_i rfl (l_i (iI_subE rfl rfl) l_0))) (H.mono (t_bE (fun b8 S7 H => ?_)))
      refine f_bE H (fun H => ?_) (fun H => ?_)
      · exact c_pi rfl H
      · refine tw_V ?_
        refine pw_avE (l_k (l_i rfl (l_i rfl (l_i rfl l_0)))) (H.mono (t_iE (fun z10 S9 H => ?_)))
        refine tw_V ?_
        refine pw_avE (l_k (l_i rfl l_0)) (H.mono (t_iE (fun z12 S11 H => ?_)))
        obtain ⟨h24, H⟩ := H
        refine f_eqE (s := v5) (t := 0) rfl rfl h24 (by constructor <;> decide) H (fun H => ?_) (fun H => ?_)
        · refine pw_avE (l_i rfl l_0) (H.mono (t_iE (fun z14 S13 H => ?_)))
          exact c_pi rfl H
        · obtain ⟨h23, H⟩ := H
          refine f_eqE (s := v5) (t := 1) rfl rfl h23 (by constructor <;> decide) H (fun H => ?_) (fun H => ?_)
          · refine pw_avE (l_i rfl l_0) (H.mono (t_iE (fun z16 S15 H => ?_)))
            exact c_pi rfl H
          · obtain ⟨h22, H⟩ := H
            refine f_eqE (s := v5) (t := 2) rfl rfl h22 (by constructor <;> decide) H (fun H => ?_) (fun H => ?_)
            · refine pw_avE (l_i rfl l_0) (H.mono (t_iE (fun z18 S17 H => ?_)))
              exact c_pi rfl H
            · obtain ⟨h21, H⟩ := H
              refine f_eqE (s := v5) (t := 3) rfl rfl h21 (by constructor <;> decide) H (fun H => ?_) (fun H => ?_)
              · refine pw_avE (l_i rfl l_0) (H.mono (t_iE (fun z20 S19 H => ?_)))
                exact c_pi rfl H
              · exact c_pi rfl H
theorem t_X2_longOf_0 {E : pw_E} {d : Nat} {w0 : pw_W} {m : Nat} {S : tw_S} {Post : pw_R → pw_W → Prop} (hm : pw_base E ≤ m) (v1 : Int) (v2 : Int) (H : pw_Cl E m_X2_at d [.int (iI v1), .int (iI v2)] (tw w0 m S) (c_i (t_i w0 m (fun z2 S1 => ((0 : Int) ≤ (46 + z2) ∧ (46 + z2) < 1526 ∧ Post (.inl (some (.int (iI (S1.2.2 9 (Int.toNat (46 + z2))))))) (tw w0 m S1)))))) : pw_Wp E m_X2_longOf (d + 1) 0 [some (va_rf (some m)), some (.int (iI v1)), some (.int (iI v2))] [] (tw w0 m S) Post := by
  refine s_X2_longOf_0 (some m) (iI v1) (iI v2) ?_
  refine tw_getr rfl ?_
  refine pw_avE (l_i rfl (l_i rfl l_0)) (H.mono (t_iE (fun z2 S1 H => ?_)))
  obtain ⟨h3, h4, H⟩ := H
  refine tw_aldi (k := 9) (t := (46 + z2)) rfl (iI_addE rfl rfl) h3 h4 ?_
  exact c_pi rfl H
theorem t_X2_longest_0 {E : pw_E} {d : Nat} {w0 : pw_W} {m : Nat} {S : tw_S} {Post : pw_R → pw_W → Prop} (hm : pw_base E ≤ m)  (H : pw_Wp E m_X2_longest (d + 1) 4 [some (va_rf (some m)), some (.int (iI (-1))), some (.int (iI 0))] [] (tw w0 m S) Post) : pw_Wp E m_X2_longest (d + 1) 0 [some (va_rf (some m)), none, none] [] (tw w0 m S) Post := by
  refine s_X2_longest_0 (some m) ?_
  exact pw_eqL (g_k (g_i rfl (g_i rfl g_0))) H
theorem t_X2_longest_4 {E : pw_E} {d : Nat} {w0 : pw_W} {m : Nat} {S : tw_S} {Post : pw_R → pw_W → Prop} (hm : pw_base E ≤ m) (v1 : Int) (v2 : Int) (H : (rI (S.2.2 9 0) ∧ rI v2 ∧ if (S.2.2 9 0) ≤ v2 then Post (.inl (some (.int (iI v1)))) (tw w0 m S) else (rI v1 ∧ if v1 = (-1) then pw_Wp E m_X2_longest (d + 1) 4 [some (va_rf (some m)), some (.int (iI v2)), some (.int (iI (v2 + 1)))] [] (tw w0 m S) Post else pw_Cl E m_X2_versions d [va_rf (some m), .int (iI v2)] (tw w0 m S) (c_i (t_i w0 m (fun z4 S3 => pw_Cl E m_X2_longOf d [va_rf (some m), .int (iI v2), .int (iI (z4 - 1))] (tw w0 m S3) (c_i (t_i w0 m (fun z6 S5 => pw_Cl E m_X2_versions d [va_rf (some m), .int (iI v1)] (tw w0 m S5) (c_i (t_i w0 m (fun z8 S7 => pw_Cl E m_X2_longOf d [va_rf (some m), .int (iI v1), .int (iI (z8 - 1))] (tw w0 m S7) (c_i (t_i w0 m (fun z10 S9 => (rI z6 ∧ rI z10 ∧ if z6 ≤ z10 then pw_Wp E m_X2_longest (d + 1) 4 [some (va_rf (some m)), some (.int (iI v1)), some (.int (iI (v2 + 1)))] [] (tw w0 m S9) Post else pw_Wp E m_X2_longest (d + 1) 4 [some (va_rf (some m)), some (.int (iI v2)), some (.int (iI (v2 + 1)))] [] (tw w0 m S9) Post)))))))))))))))) : pw_Wp E m_X2_longest (d + 1) 4 [some (va_rf (some m)), some (.int (iI v1)), some (.int (iI v2))] [] (tw w0 m S) Post := by
  refine s_X2_longest_4 (some m) (iI v1) (iI v2) ?_
  refine tw_getr rfl ?_
  refine tw_aldi (k := 9) (t := 0) rfl rfl (by decide) (by decide) ?_
  obtain ⟨h14, H⟩ := H
  obtain ⟨h15, H⟩ := H
  refine f_leE (s := (S.2.2 9 0)) (t := v2) rfl rfl h14 h15 H (fun H => ?_) (fun H => ?_)
  · exact c_pi rfl H
  · obtain ⟨h13, H⟩ := H
    refine f_eqE (s := v1) (t := (-1)) rfl rfl h13 (by constructor <;> decide) H (fun H => ?_) (fun H => ?_)
    · exact pw_eqL (g_k (g_i rfl (g_i (iI_addE rfl rfl) g_0))) H
    · refine tw_V ?_
      refine pw_avE (l_k (l_i rfl l_0)) (H.mono (t_iE (fun z4 S3 H => ?_)))
      refine tw_V ?_
      refine pw_avE (l_k (l_i rfl (l_i (iI_subE rfl rfl) l_0))) (H.mono (t_iE (fun z6 S5 H => ?_)))
      refine tw_V ?_
      refine pw_avE (l_k (l_i rfl l_0)) (H.mono (t_iE (fun z8 S7 H => ?_)))
      refine tw_V ?_
      refine pw_avE (l_k (l_i rfl (l_i (iI_subE rfl rfl) l_0))) (H.mono (t_iE (fun z10 S9 H => ?_)))
      obtain ⟨h11, H⟩ := H
      obtain ⟨h12, H⟩ := H
      refine f_leE (s := z6) (t := z10) rfl rfl h11 h12 H (fun H => ?_) (fun H => ?_)
      · exact pw_eqL (g_k (g_i rfl (g_i (iI_addE rfl rfl) g_0))) H
      · exact pw_eqL (g_k (g_i rfl (g_i (iI_addE rfl rfl) g_0))) H
theorem t_X2_lost_0 {E : pw_E} {d : Nat} {w0 : pw_W} {m : Nat} {S : tw_S} {Post : pw_R → pw_W → Prop} (hm : pw_base E ≤ m) (v1 : Int) (v2 : Int) (H : pw_Wp E m_X2_lost (d + 1) 5 [some (va_rf (some m)), some (.int (iI v1)), some (.int (iI v2)), some (.int (iI 0)), some (.int (iI 0))] [] (tw w0 m S) Post) : pw_Wp E m_X2_lost (d + 1) 0 [some (va_rf (some m)), some (.int (iI v1)), some (.int (iI v2)), none, none] [] (tw w0 m S) Post := by
  refine s_X2_lost_0 (some m) (iI v1) (iI v2) ?_
  exact pw_eqL (g_k (g_i rfl (g_i rfl (g_i rfl (g_i rfl g_0))))) H
theorem t_X2_lost_5 {E : pw_E} {d : Nat} {w0 : pw_W} {m : Nat} {S : tw_S} {Post : pw_R → pw_W → Prop} (hm : pw_base E ≤ m) (v1 : Int) (v2 : Int) (v3 : Int) (v4 : Int) (H : (rI v2 ∧ if v2 ≤ 0 then Post (.inl (some (.int (iI v3)))) (tw w0 m S) else pw_Cl E m_X2_longOf d [va_rf (some m), .int (iI v1), .int (iI (v2 - 1))] (tw w0 m S) (c_i (t_i w0 m (fun z2 S1 => (rI z2 ∧ rI v4 ∧ if z2 ≤ v4 then Post (.inl (some (.int (iI v3)))) (tw w0 m S1) else pw_Cl E m_X2_tokenAt d [va_rf (some m), .int (iI v1), .int (iI (v2 - 1)), .int (iI v4)] (tw w0 m S1) (c_i (t_i w0 m (fun z4 S3 => pw_Cl E m_X2_placeOf d [va_rf (some m), .int (iI v1), .int (iI v2), .int (iI z4)] (tw w0 m S3) (c_i (t_i w0 m (fun z6 S5 => (rI z6 ∧ if z6 = (-1) then pw_Wp E m_X2_lost (d + 1) 5 [some (va_rf (some m)), some (.int (iI v1)), some (.int (iI v2)), some (.int (iI (v3 + 1))), some (.int (iI (v4 + 1)))] [] (tw w0 m S5) Post else pw_Wp E m_X2_lost (d + 1) 5 [some (va_rf (some m)), some (.int (iI v1)), some (.int (iI v2)), some (.int (iI (v3 + 0))), some (.int (iI (v4 + 1)))] [] (tw w0 m S5) Post))))))))))))) : pw_Wp E m_X2_lost (d + 1) 5 [some (va_rf (some m)), some (.int (iI v1)), some (.int (iI v2)), some (.int (iI v3)), some (.int (iI v4))] [] (tw w0 m S) Post := by
  refine s_X2_lost_5 (some m) (iI v1) (iI v2) (iI v3) (iI v4) ?_
  obtain ⟨h10, H⟩ := H
  refine f_leE (s := v2) (t := 0) rfl rfl h10 (by constructor <;> decide) H (fun H => ?_) (fun H => ?_)
  · exact c_pi rfl H
  · refine tw_V ?_
    refine pw_avE (l_k (l_i rfl (l_i (iI_subE rfl rfl) l_0))) (H.mono (t_iE (fun z2 S1 H => ?_)))
    obtain ⟨h8, H⟩ := H
    obtain ⟨h9, H⟩ := H
    refine f_leE (s := z2) (t := v4) rfl rfl h8 h9 H (fun H => ?_) (fun H => ?_)
    · exact c_pi rfl H
    · refine tw_V ?_
      refine pw_avE (l_k (l_i rfl (l_i (iI_subE rfl rfl) (l_i rfl l_0)))) (H.mono (t_iE (fun z4 S3 H => ?_)))
      refine tw_V ?_
      refine pw_avE (l_k (l_i rfl (l_i rfl (l_i rfl l_0)))) (H.mono (t_iE (fun z6 S5 H => ?_)))
      obtain ⟨h7, H⟩ := H
      refine f_eqE (s := z6) (t := (-1)) rfl rfl h7 (by constructor <;> decide) H (fun H => ?_) (fun H => ?_)
      · exact pw_eqL (g_k (g_i rfl (g_i rfl (g_i (iI_addE rfl rfl) (g_i (iI_addE rfl rfl) g_0))))) H
      · exact pw_eqL (g_k (g_i rfl (g_i rfl (g_i (iI_addE rfl rfl) (g_i (iI_addE rfl rfl) g_0))))) H
theorem t_X2_makeVersion_0 {E : pw_E} {d : Nat} {w0 : pw_W} {m : Nat} {S : tw_S} {Post : pw_R → pw_W → Prop} (hm : pw_base E ≤ m) (v1 : Int) (H : (rI v1 ∧ if v1 = 3 then pw_Cl E m_X2_at d [.int (iI (S.2.2 10 0)), .int (iI (S.2.2 10 1))] (tw w0 m S) (c_i (t_i w0 m (fun z6 S5 => ((0 : Int) ≤ (46 + z6) ∧ (46 + z6) < 1526 ∧ pw_Cl E m_X2_beginVersion d [va_rf (some m), .int (iI (S.2.2 10 0))] (tw w0 m S5) (c_v (t_u w0 m (fun S9 => (rI v1 ∧ if v1 = 2 then pw_Cl E m_X2_moves d [va_rf (some m), .int (iI (S.2.2 10 0)), .int (iI z6), .int (iI (S5.2.2 9 (Int.toNat (46 + z6))))] (tw w0 m S9) (c_v (t_u w0 m (fun S10 => Post (.inl none) (tw w0 m S10)))) else pw_Wp E m_X2_makeVersion (d + 1) 64 [some (va_rf (some m)), some (.int (iI v1)), some (.int (iI (S.2.2 10 0))), some (.int (iI z6)), some (.int (iI (S5.2.2 9 (Int.toNat (46 + z6))))), some (.int (iI 0)), none] [] (tw w0 m S9) Post)))))))) else pw_Cl E m_X2_latest d [va_rf (some m), .int (iI (S.2.2 10 0))] (tw w0 m S) (c_i (t_i w0 m (fun z13 S12 => ((0 : Int) ≤ (46 + z13) ∧ (46 + z13) < 1526 ∧ pw_Cl E m_X2_beginVersion d [va_rf (some m), .int (iI (S.2.2 10 0))] (tw w0 m S12) (c_v (t_u w0 m (fun S16 => (rI v1 ∧ if v1 = 2 then pw_Cl E m_X2_moves d [va_rf (some m), .int (iI (S.2.2 10 0)), .int (iI z13), .int (iI (S12.2.2 9 (Int.toNat (46 + z13))))] (tw w0 m S16) (c_v (t_u w0 m (fun S17 => Post (.inl none) (tw w0 m S17)))) else pw_Wp E m_X2_makeVersion (d + 1) 64 [some (va_rf (some m)), some (.int (iI v1)), some (.int (iI (S.2.2 10 0))), some (.int (iI z13)), some (.int (iI (S12.2.2 9 (Int.toNat (46 + z13))))), some (.int (iI 0)), none] [] (tw w0 m S16) Post)))))))))) : pw_Wp E m_X2_makeVersion (d + 1) 0 [some (va_rf (some m)), some (.int (iI v1)), none, none, none, none, none] [] (tw w0 m S) Post := by
  refine s_X2_makeVersion_0 (some m) (iI v1) ?_
  refine tw_getr rfl ?_
  refine tw_aldi (k := 10) (t := 0) rfl rfl (by decide) (by decide) ?_
  obtain ⟨h19, H⟩ := H
  refine f_eqE (s := v1) (t := 3) rfl rfl h19 (by constructor <;> decide) H (fun H => ?_) (fun H => ?_)
  · refine tw_getr rfl ?_
    refine tw_aldi (k := 10) (t := 1) rfl rfl (by decide) (by decide) ?_
    refine pw_avE (l_i rfl (l_i rfl l_0)) (H.mono (t_iE (fun z6 S5 H => ?_)))
    refine tw_getr rfl ?_
    obtain ⟨h7, h8, H⟩ := H
    refine tw_aldi (k := 9) (t := (46 + z6)) rfl (iI_addE rfl rfl) h7 h8 ?_
    refine tw_V ?_
    refine pw_avE (l_k (l_i rfl l_0)) (H.mono (t_uE (fun S9 H => ?_)))
    obtain ⟨h11, H⟩ := H
    refine f_eqE (s := v1) (t := 2) rfl rfl h11 (by constructor <;> decide) H (fun H => ?_) (fun H => ?_)
    · refine tw_V ?_
      refine pw_avE (l_k (l_i rfl (l_i rfl (l_i rfl l_0)))) (H.mono (t_uE (fun S10 H => ?_)))
      exact H
    · exact pw_eqL (g_k (g_i rfl (g_i rfl (g_i rfl (g_i rfl (g_i rfl (g_k g_0))))))) H
  · refine tw_V ?_
    refine pw_avE (l_k (l_i rfl l_0)) (H.mono (t_iE (fun z13 S12 H => ?_)))
    refine tw_getr rfl ?_
    obtain ⟨h14, h15, H⟩ := H
    refine tw_aldi (k := 9) (t := (46 + z13)) rfl (iI_addE rfl rfl) h14 h15 ?_
    refine tw_V ?_
    refine pw_avE (l_k (l_i rfl l_0)) (H.mono (t_uE (fun S16 H => ?_)))
    obtain ⟨h18, H⟩ := H
    refine f_eqE (s := v1) (t := 2) rfl rfl h18 (by constructor <;> decide) H (fun H => ?_) (fun H => ?_)
    · refine tw_V ?_
      refine pw_avE (l_k (l_i rfl (l_i rfl (l_i rfl l_0)))) (H.mono (t_uE (fun S17 H => ?_)))
      exact H
    · exact pw_eqL (g_k (g_i rfl (g_i rfl (g_i rfl (g_i rfl (g_i rfl (g_k g_0))))))) H
theorem t_X2_makeVersion_64 {E : pw_E} {d : Nat} {w0 : pw_W} {m : Nat} {S : tw_S} {Post : pw_R → pw_W → Prop} (hm : pw_base E ≤ m) (v1 : Int) (v2 : Int) (v3 : Int) (v4 : Int) (v5 : Int) (H : (rI v4 ∧ rI v5 ∧ if v4 < v5 then Post (.inl none) (tw w0 m S) else pw_Wp E m_X2_makeVersion (d + 1) 74 [some (va_rf (some m)), some (.int (iI v1)), some (.int (iI v2)), some (.int (iI v3)), some (.int (iI v4)), some (.int (iI v5)), some (.int (iI 0))] [] (tw w0 m S) Post)) : pw_Wp E m_X2_makeVersion (d + 1) 64 [some (va_rf (some m)), some (.int (iI v1)), some (.int (iI v2)), some (.int (iI v3)), some (.int (iI v4)), some (.int (iI v5)), none] [] (tw w0 m S) Post := by
  refine s_X2_makeVersion_64 (some m) (iI v1) (iI v2) (iI v3) (iI v4) (iI v5) ?_
  obtain ⟨h1, H⟩ := H
  obtain ⟨h2, H⟩ := H
  refine f_ltE (s := v4) (t := v5) rfl rfl h1 h2 H (fun H => ?_) (fun H => ?_)
  · exact H
  · exact pw_eqL (g_k (g_i rfl (g_i rfl (g_i rfl (g_i rfl (g_i rfl (g_i rfl g_0))))))) H
theorem t_X2_makeVersion_74 {E : pw_E} {d : Nat} {w0 : pw_W} {m : Nat} {S : tw_S} {Post : pw_R → pw_W → Prop} (hm : pw_base E ≤ m) (v1 : Int) (v2 : Int) (v3 : Int) (v4 : Int) (v5 : Int) (v6 : Int) (H : (rI (S.1 21) ∧ rI v6 ∧ if (S.1 21) ≤ v6 then pw_Wp E m_X2_makeVersion (d + 1) 121 [some (va_rf (some m)), some (.int (iI v1)), some (.int (iI v2)), some (.int (iI v3)), some (.int (iI v4)), some (.int (iI v5)), none] [] (tw w0 m S) Post else (rI v1 ∧ if v1 = 0 then (rI v5 ∧ rI (S.2.2 10 1) ∧ if v5 = (S.2.2 10 1) then ((0 : Int) ≤ v6 ∧ v6 < 300 ∧ pw_Cl E m_X2_newToken d [va_rf (some m), .int (iI v2), .int (iI (S.2.2 11 (Int.toNat v6)))] (tw w0 m S) (c_i (t_i w0 m (fun z6 S5 => pw_Cl E m_X2_addWord d [va_rf (some m), .int (iI v2), .int (iI z6)] (tw w0 m S5) (c_v (t_u w0 m (fun S7 => pw_Wp E m_X2_makeVersion (d + 1) 74 [some (va_rf (some m)), some (.int (iI v1)), some (.int (iI v2)), some (.int (iI v3)), some (.int (iI v4)), some (.int (iI v5)), some (.int (iI (v6 + 1)))] [] (tw w0 m S7) Post))))))) else pw_Wp E m_X2_makeVersion (d + 1) 121 [some (va_rf (some m)), some (.int (iI v1)), some (.int (iI v2)), some (.int (iI v3)), some (.int (iI v4)), some (.int (iI v5)), none] [] (tw w0 m S) Post) else pw_Wp E m_X2_makeVersion (d + 1) 121 [some (va_rf (some m)), some (.int (iI v1)), some (.int (iI v2)), some (.int (iI v3)), some (.int (iI v4)), some (.int (iI v5)), none] [] (tw w0 m S) Post))) : pw_Wp E m_X2_makeVersion (d + 1) 74 [some (va_rf (some m)), some (.int (iI v1)), some (.int (iI v2)), some (.int (iI v3)), some (.int (iI v4)), some (.int (iI v5)), some (.int (iI v6))] [] (tw w0 m S) Post := by
  refine s_X2_makeVersion_74 (some m) (iI v1) (iI v2) (iI v3) (iI v4) (iI v5) (iI v6) ?_
  refine tw_geti rfl ?_
  obtain ⟨h11, H⟩ := H
  obtain ⟨h12, H⟩ := H
  refine f_leE (s := (S.1 21)) (t := v6) rfl rfl h11 h12 H (fun H => ?_) (fun H => ?_)
  · exact pw_eqL (g_k (g_i rfl (g_i rfl (g_i rfl (g_i rfl (g_i rfl (g_k g_0))))))) H
  · obtain ⟨h10, H⟩ := H
    refine f_eqE (s := v1) (t := 0) rfl rfl h10 (by constructor <;> decide) H (fun H => ?_) (fun H => ?_)
    · refine tw_getr rfl ?_
      refine tw_aldi (k := 10) (t := 1) rfl rfl (by decide) (by decide) ?_
      obtain ⟨h8, H⟩ := H
      obtain ⟨h9, H⟩ := H
      refine f_eqE (s := v5) (t := (S.2.2 10 1)) rfl rfl h8 h9 H (fun H => ?_) (fun H => ?_)
      · refine tw_getr rfl ?_
        obtain ⟨h3, h4, H⟩ := H
        refine tw_aldi (k := 11) (t := v6) rfl rfl h3 h4 ?_
        refine tw_V ?_
        refine pw_avE (l_k (l_i rfl (l_i rfl l_0))) (H.mono (t_iE (fun z6 S5 H => ?_)))
        refine tw_V ?_
        refine pw_avE (l_k (l_i rfl (l_i rfl l_0))) (H.mono (t_uE (fun S7 H => ?_)))
        exact pw_eqL (g_k (g_i rfl (g_i rfl (g_i rfl (g_i rfl (g_i rfl (g_i (iI_addE rfl rfl) g_0))))))) H
      · exact pw_eqL (g_k (g_i rfl (g_i rfl (g_i rfl (g_i rfl (g_i rfl (g_k g_0))))))) H
    · exact pw_eqL (g_k (g_i rfl (g_i rfl (g_i rfl (g_i rfl (g_i rfl (g_k g_0))))))) H
theorem t_X2_makeVersion_121 {E : pw_E} {d : Nat} {w0 : pw_W} {m : Nat} {S : tw_S} {Post : pw_R → pw_W → Prop} (hm : pw_base E ≤ m) (v1 : Int) (v2 : Int) (v3 : Int) (v4 : Int) (v5 : Int) (H : (rI v1 ∧ if v1 = 1 then pw_Cl E m_X2_in d [.int (iI v5), .int (iI (S.2.2 10 1)), .int (iI (((S.2.2 10 1) + (S.2.2 10 2)) - 1))] (tw w0 m S) (c_z (t_b w0 m (fun b8 S7 => (if b8 = true then (rI v4 ∧ rI v5 ∧ if v4 ≤ v5 then pw_Wp E m_X2_makeVersion (d + 1) 64 [some (va_rf (some m)), some (.int (iI v1)), some (.int (iI v2)), some (.int (iI v3)), some (.int (iI v4)), some (.int (iI (v5 + 1))), none] [] (tw w0 m S7) Post else pw_Wp E m_X2_makeVersion (d + 1) 64 [some (va_rf (some m)), some (.int (iI v1)), some (.int (iI v2)), some (.int (iI v3)), some (.int (iI v4)), some (.int (iI (v5 + 1))), none] [] (tw w0 m S7) Post) else (rI v4 ∧ rI v5 ∧ if v4 ≤ v5 then pw_Wp E m_X2_makeVersion (d + 1) 64 [some (va_rf (some m)), some (.int (iI v1)), some (.int (iI v2)), some (.int (iI v3)), some (.int (iI v4)), some (.int (iI (v5 + 1))), none] [] (tw w0 m S7) Post else ((0 : Int) ≤ ((86 + (20 * v3)) + v5) ∧ ((86 + (20 * v3)) + v5) < 1526 ∧ pw_Cl E m_X2_addWord d [va_rf (some m), .int (iI v2), .int (iI (S7.2.2 9 (Int.toNat ((86 + (20 * v3)) + v5))))] (tw w0 m S7) (c_v (t_u w0 m (fun S11 => pw_Wp E m_X2_makeVersion (d + 1) 64 [some (va_rf (some m)), some (.int (iI v1)), some (.int (iI v2)), some (.int (iI v3)), some (.int (iI v4)), some (.int (iI (v5 + 1))), none] [] (tw w0 m S11) Post))))))))) else (rI v4 ∧ rI v5 ∧ if v4 ≤ v5 then pw_Wp E m_X2_makeVersion (d + 1) 64 [some (va_rf (some m)), some (.int (iI v1)), some (.int (iI v2)), some (.int (iI v3)), some (.int (iI v4)), some (.int (iI (v5 + 1))), none] [] (tw w0 m S) Post else ((0 : Int) ≤ ((86 + (20 * v3)) + v5) ∧ ((86 + (20 * v3)) + v5) < 1526 ∧ pw_Cl E m_X2_addWord d [va_rf (some m), .int (iI v2), .int (iI (S.2.2 9 (Int.toNat ((86 + (20 * v3)) + v5))))] (tw w0 m S) (c_v (t_u w0 m (fun S18 => pw_Wp E m_X2_makeVersion (d + 1) 64 [some (va_rf (some m)), some (.int (iI v1)), some (.int (iI v2)), some (.int (iI v3)), some (.int (iI v4)), some (.int (iI (v5 + 1))), none] [] (tw w0 m S18) Post))))))) : pw_Wp E m_X2_makeVersion (d + 1) 121 [some (va_rf (some m)), some (.int (iI v1)), some (.int (iI v2)), some (.int (iI v3)), some (.int (iI v4)), some (.int (iI v5)), none] [] (tw w0 m S) Post := by
  refine s_X2_makeVersion_121 (some m) (iI v1) (iI v2) (iI v3) (iI v4) (iI v5) ?_
  obtain ⟨h21, H⟩ := H
  refine f_eqE (s := v1) (t := 1) rfl rfl h21 (by constructor <;> decide) H (fun H => ?_) (fun H => ?_)
  · refine tw_getr rfl ?_
    refine tw_aldi (k := 10) (t := 1) rfl rfl (by decide) (by decide) ?_
    refine tw_getr rfl ?_
    refine tw_aldi (k := 10) (t := 1) rfl rfl (by decide) (by decide) ?_
    refine tw_getr rfl ?_
    refine tw_aldi (k := 10) (t := 2) rfl rfl (by decide) (by decide) ?_
    refine pw_avE (l_i rfl (l_i rfl (l_i (iI_subE (iI_addE rfl rfl) rfl) l_0))) (H.mono (t_bE (fun b8 S7 H => ?_)))
    refine f_bE H (fun H => ?_) (fun H => ?_)
    · obtain ⟨h12, H⟩ := H
      obtain ⟨h13, H⟩ := H
      refine f_leE (s := v4) (t := v5) rfl rfl h12 h13 H (fun H => ?_) (fun H => ?_)
      · exact pw_eqL (g_k (g_i rfl (g_i rfl (g_i rfl (g_i rfl (g_i (iI_addE rfl rfl) (g_k g_0))))))) H
      · refine tw_getr rfl ?_
        obtain ⟨h9, h10, H⟩ := H
        refine tw_aldi (k := 9) (t := ((86 + (20 * v3)) + v5)) rfl (iI_addE (iI_addE rfl (iI_mulE rfl rfl)) rfl) h9 h10 ?_
        refine tw_V ?_
        refine pw_avE (l_k (l_i rfl (l_i rfl l_0))) (H.mono (t_uE (fun S11 H => ?_)))
        exact pw_eqL (g_k (g_i rfl (g_i rfl (g_i rfl (g_i rfl (g_i (iI_addE rfl rfl) (g_k g_0))))))) H
    · obtain ⟨h14, H⟩ := H
      obtain ⟨h15, H⟩ := H
      refine f_leE (s := v4) (t := v5) rfl rfl h14 h15 H (fun H => ?_) (fun H => ?_)
      · exact pw_eqL (g_k (g_i rfl (g_i rfl (g_i rfl (g_i rfl (g_i (iI_addE rfl rfl) (g_k g_0))))))) H
      · exact pw_eqL (g_k (g_i rfl (g_i rfl (g_i rfl (g_i rfl (g_i (iI_addE rfl rfl) (g_k g_0))))))) H
  · obtain ⟨h19, H⟩ := H
    obtain ⟨h20, H⟩ := H
    refine f_leE (s := v4) (t := v5) rfl rfl h19 h20 H (fun H => ?_) (fun H => ?_)
    · exact pw_eqL (g_k (g_i rfl (g_i rfl (g_i rfl (g_i rfl (g_i (iI_addE rfl rfl) (g_k g_0))))))) H
    · refine tw_getr rfl ?_
      obtain ⟨h16, h17, H⟩ := H
      refine tw_aldi (k := 9) (t := ((86 + (20 * v3)) + v5)) rfl (iI_addE (iI_addE rfl (iI_mulE rfl rfl)) rfl) h16 h17 ?_
      refine tw_V ?_
      refine pw_avE (l_k (l_i rfl (l_i rfl l_0))) (H.mono (t_uE (fun S18 H => ?_)))
      exact pw_eqL (g_k (g_i rfl (g_i rfl (g_i rfl (g_i rfl (g_i (iI_addE rfl rfl) (g_k g_0))))))) H
theorem t_X2_makes_0 {E : pw_E} {d : Nat} {w0 : pw_W} {m : Nat} {S : tw_S} {Post : pw_R → pw_W → Prop} (hm : pw_base E ≤ m) (v1 : Int) (H : pw_Cl E m_X2_versions d [va_rf (some m), .int (iI (S.2.2 10 0))] (tw w0 m S) (c_i (t_i w0 m (fun z4 S3 => (rI z4 ∧ if (10 : Int) ≤ z4 then Post (.inl none) (tw w0 m S3) else pw_Cl E m_X2_isThere d [va_rf (some m), .int (iI v1)] (tw w0 m S3) (c_z (t_b w0 m (fun b6 S5 => (if b6 = true then (rI v1 ∧ if v1 = 0 then pw_Cl E m_X2_versions d [va_rf (some m), .int (iI (S5.2.2 10 0))] (tw w0 m S5) (c_i (t_i w0 m (fun z12 S11 => pw_Cl E m_X2_longOf d [va_rf (some m), .int (iI (S5.2.2 10 0)), .int (iI (z12 - 1))] (tw w0 m S11) (c_i (t_i w0 m (fun z14 S13 => (rI z14 ∧ if (20 : Int) ≤ z14 then Post (.inl none) (tw w0 m S13) else pw_Cl E m_X2_makeVersion d [va_rf (some m), .int (iI v1)] (tw w0 m S13) (c_v (t_u w0 m (fun S15 => Post (.inl none) (tw w0 m S15))))))))))) else pw_Cl E m_X2_makeVersion d [va_rf (some m), .int (iI v1)] (tw w0 m S5) (c_v (t_u w0 m (fun S17 => Post (.inl none) (tw w0 m S17))))) else Post (.inl none) (tw w0 m S5)))))))))) : pw_Wp E m_X2_makes (d + 1) 0 [some (va_rf (some m)), some (.int (iI v1))] [] (tw w0 m S) Post := by
  refine s_X2_makes_0 (some m) (iI v1) ?_
  refine tw_getr rfl ?_
  refine tw_aldi (k := 10) (t := 0) rfl rfl (by decide) (by decide) ?_
  refine tw_V ?_
  refine pw_avE (l_k (l_i rfl l_0)) (H.mono (t_iE (fun z4 S3 H => ?_)))
  obtain ⟨h19, H⟩ := H
  refine f_leE (s := 10) (t := z4) rfl rfl (by constructor <;> decide) h19 H (fun H => ?_) (fun H => ?_)
  · exact H
  · refine tw_V ?_
    refine pw_avE (l_k (l_i rfl l_0)) (H.mono (t_bE (fun b6 S5 H => ?_)))
    refine f_bE H (fun H => ?_) (fun H => ?_)
    · exact H
    · obtain ⟨h18, H⟩ := H
      refine f_eqE (s := v1) (t := 0) rfl rfl h18 (by constructor <;> decide) H (fun H => ?_) (fun H => ?_)
      · refine tw_getr rfl ?_
        refine tw_aldi (k := 10) (t := 0) rfl rfl (by decide) (by decide) ?_
        refine tw_getr rfl ?_
        refine tw_aldi (k := 10) (t := 0) rfl rfl (by decide) (by decide) ?_
        refine tw_V ?_
        refine pw_avE (l_k (l_i rfl l_0)) (H.mono (t_iE (fun z12 S11 H => ?_)))
        refine tw_V ?_
        refine pw_avE (l_k (l_i rfl (l_i (iI_subE rfl rfl) l_0))) (H.mono (t_iE (fun z14 S13 H => ?_)))
        obtain ⟨h16, H⟩ := H
        refine f_leE (s := 20) (t := z14) rfl rfl (by constructor <;> decide) h16 H (fun H => ?_) (fun H => ?_)
        · exact H
        · refine tw_V ?_
          refine pw_avE (l_k (l_i rfl l_0)) (H.mono (t_uE (fun S15 H => ?_)))
          exact H
      · refine tw_V ?_
        refine pw_avE (l_k (l_i rfl l_0)) (H.mono (t_uE (fun S17 H => ?_)))
        exact H
theorem t_X2_moves_0 {E : pw_E} {d : Nat} {w0 : pw_W} {m : Nat} {S : tw_S} {Post : pw_R → pw_W → Prop} (hm : pw_base E ≤ m) (v1 : Int) (v2 : Int) (v3 : Int) (H : pw_Wp E m_X2_moves (d + 1) 6 [some (va_rf (some m)), some (.int (iI v1)), some (.int (iI v2)), some (.int (iI v3)), some (.int (iI 0)), some (.int (iI 0))] [] (tw w0 m S) Post) : pw_Wp E m_X2_moves (d + 1) 0 [some (va_rf (some m)), some (.int (iI v1)), some (.int (iI v2)), some (.int (iI v3)), none, none] [] (tw w0 m S) Post := by
  refine s_X2_moves_0 (some m) (iI v1) (iI v2) (iI v3) ?_
  exact pw_eqL (g_k (g_i rfl (g_i rfl (g_i rfl (g_i rfl (g_i rfl g_0)))))) H
theorem t_X2_moves_6 {E : pw_E} {d : Nat} {w0 : pw_W} {m : Nat} {S : tw_S} {Post : pw_R → pw_W → Prop} (hm : pw_base E ≤ m) (v1 : Int) (v2 : Int) (v3 : Int) (v4 : Int) (v5 : Int) (H : (rI v3 ∧ rI v5 ∧ if v3 ≤ v5 then Post (.inl none) (tw w0 m S) else (rI v4 ∧ rI (S.2.2 10 1) ∧ if v4 = (S.2.2 10 1) then (rI v5 ∧ rI (S.2.2 10 2) ∧ if v5 = (S.2.2 10 2) then ((0 : Int) ≤ ((86 + (20 * v2)) + (S.2.2 10 1)) ∧ ((86 + (20 * v2)) + (S.2.2 10 1)) < 1526 ∧ pw_Cl E m_X2_addWord d [va_rf (some m), .int (iI v1), .int (iI (S.2.2 9 (Int.toNat ((86 + (20 * v2)) + (S.2.2 10 1)))))] (tw w0 m S) (c_v (t_u w0 m (fun S9 => pw_Wp E m_X2_moves (d + 1) 6 [some (va_rf (some m)), some (.int (iI v1)), some (.int (iI v2)), some (.int (iI v3)), some (.int (iI (v4 + 1))), some (.int (iI (v5 + 1)))] [] (tw w0 m S9) Post)))) else ((0 : Int) ≤ ((86 + (20 * v2)) + (v4 + 1)) ∧ ((86 + (20 * v2)) + (v4 + 1)) < 1526 ∧ pw_Cl E m_X2_addWord d [va_rf (some m), .int (iI v1), .int (iI (S.2.2 9 (Int.toNat ((86 + (20 * v2)) + (v4 + 1)))))] (tw w0 m S) (c_v (t_u w0 m (fun S12 => pw_Wp E m_X2_moves (d + 1) 6 [some (va_rf (some m)), some (.int (iI v1)), some (.int (iI v2)), some (.int (iI v3)), some (.int (iI ((v4 + 1) + 1))), some (.int (iI (v5 + 1)))] [] (tw w0 m S12) Post))))) else (rI v5 ∧ rI (S.2.2 10 2) ∧ if v5 = (S.2.2 10 2) then ((0 : Int) ≤ ((86 + (20 * v2)) + (S.2.2 10 1)) ∧ ((86 + (20 * v2)) + (S.2.2 10 1)) < 1526 ∧ pw_Cl E m_X2_addWord d [va_rf (some m), .int (iI v1), .int (iI (S.2.2 9 (Int.toNat ((86 + (20 * v2)) + (S.2.2 10 1)))))] (tw w0 m S) (c_v (t_u w0 m (fun S21 => pw_Wp E m_X2_moves (d + 1) 6 [some (va_rf (some m)), some (.int (iI v1)), some (.int (iI v2)), some (.int (iI v3)), some (.int (iI (v4 + 0))), some (.int (iI (v5 + 1)))] [] (tw w0 m S21) Post)))) else ((0 : Int) ≤ ((86 + (20 * v2)) + (v4 + 0)) ∧ ((86 + (20 * v2)) + (v4 + 0)) < 1526 ∧ pw_Cl E m_X2_addWord d [va_rf (some m), .int (iI v1), .int (iI (S.2.2 9 (Int.toNat ((86 + (20 * v2)) + (v4 + 0)))))] (tw w0 m S) (c_v (t_u w0 m (fun S24 => pw_Wp E m_X2_moves (d + 1) 6 [some (va_rf (some m)), some (.int (iI v1)), some (.int (iI v2)), some (.int (iI v3)), some (.int (iI ((v4 + 0) + 1))), some (.int (iI (v5 + 1)))] [] (tw w0 m S24) Post)))))))) : pw_Wp E m_X2_moves (d + 1) 6 [some (va_rf (some m)), some (.int (iI v1)), some (.int (iI v2)), some (.int (iI v3)), some (.int (iI v4)), some (.int (iI v5))] [] (tw w0 m S) Post := by
  refine s_X2_moves_6 (some m) (iI v1) (iI v2) (iI v3) (iI v4) (iI v5) ?_
  obtain ⟨h29, H⟩ := H
  obtain ⟨h30, H⟩ := H
  refine f_leE (s := v3) (t := v5) rfl rfl h29 h30 H (fun H => ?_) (fun H => ?_)
  · exact H
  · refine tw_getr rfl ?_
    refine tw_aldi (k := 10) (t := 1) rfl rfl (by decide) (by decide) ?_
    obtain ⟨h27, H⟩ := H
    obtain ⟨h28, H⟩ := H
    refine f_eqE (s := v4) (t := (S.2.2 10 1)) rfl rfl h27 h28 H (fun H => ?_) (fun H => ?_)
    · refine tw_getr rfl ?_
      refine tw_aldi (k := 10) (t := 2) rfl rfl (by decide) (by decide) ?_
      obtain ⟨h13, H⟩ := H
      obtain ⟨h14, H⟩ := H
      refine f_eqE (s := v5) (t := (S.2.2 10 2)) rfl rfl h13 h14 H (fun H => ?_) (fun H => ?_)
      · refine tw_getr rfl ?_
        refine tw_getr rfl ?_
        refine tw_aldi (k := 10) (t := 1) rfl rfl (by decide) (by decide) ?_
        obtain ⟨h7, h8, H⟩ := H
        refine tw_aldi (k := 9) (t := ((86 + (20 * v2)) + (S.2.2 10 1))) rfl (iI_addE (iI_addE rfl (iI_mulE rfl rfl)) rfl) h7 h8 ?_
        refine tw_V ?_
        refine pw_avE (l_k (l_i rfl (l_i rfl l_0))) (H.mono (t_uE (fun S9 H => ?_)))
        exact pw_eqL (g_k (g_i rfl (g_i rfl (g_i rfl (g_i (iI_addE rfl rfl) (g_i (iI_addE rfl rfl) g_0)))))) H
      · refine tw_getr rfl ?_
        obtain ⟨h10, h11, H⟩ := H
        refine tw_aldi (k := 9) (t := ((86 + (20 * v2)) + (v4 + 1))) rfl (iI_addE (iI_addE rfl (iI_mulE rfl rfl)) (iI_addE rfl rfl)) h10 h11 ?_
        refine tw_V ?_
        refine pw_avE (l_k (l_i rfl (l_i rfl l_0))) (H.mono (t_uE (fun S12 H => ?_)))
        exact pw_eqL (g_k (g_i rfl (g_i rfl (g_i rfl (g_i (iI_addE (iI_addE rfl rfl) rfl) (g_i (iI_addE rfl rfl) g_0)))))) H
    · refine tw_getr rfl ?_
      refine tw_aldi (k := 10) (t := 2) rfl rfl (by decide) (by decide) ?_
      obtain ⟨h25, H⟩ := H
      obtain ⟨h26, H⟩ := H
      refine f_eqE (s := v5) (t := (S.2.2 10 2)) rfl rfl h25 h26 H (fun H => ?_) (fun H => ?_)
      · refine tw_getr rfl ?_
        refine tw_getr rfl ?_
        refine tw_aldi (k := 10) (t := 1) rfl rfl (by decide) (by decide) ?_
        obtain ⟨h19, h20, H⟩ := H
        refine tw_aldi (k := 9) (t := ((86 + (20 * v2)) + (S.2.2 10 1))) rfl (iI_addE (iI_addE rfl (iI_mulE rfl rfl)) rfl) h19 h20 ?_
        refine tw_V ?_
        refine pw_avE (l_k (l_i rfl (l_i rfl l_0))) (H.mono (t_uE (fun S21 H => ?_)))
        exact pw_eqL (g_k (g_i rfl (g_i rfl (g_i rfl (g_i (iI_addE rfl rfl) (g_i (iI_addE rfl rfl) g_0)))))) H
      · refine tw_getr rfl ?_
        obtain ⟨h22, h23, H⟩ := H
        refine tw_aldi (k := 9) (t := ((86 + (20 * v2)) + (v4 + 0))) rfl (iI_addE (iI_addE rfl (iI_mulE rfl rfl)) (iI_addE rfl rfl)) h22 h23 ?_
        refine tw_V ?_
        refine pw_avE (l_k (l_i rfl (l_i rfl l_0))) (H.mono (t_uE (fun S24 H => ?_)))
        exact pw_eqL (g_k (g_i rfl (g_i rfl (g_i rfl (g_i (iI_addE (iI_addE rfl rfl) rfl) (g_i (iI_addE rfl rfl) g_0)))))) H
theorem t_X2_newToken_0 {E : pw_E} {d : Nat} {w0 : pw_W} {m : Nat} {S : tw_S} {Post : pw_R → pw_W → Prop} (hm : pw_base E ≤ m) (v1 : Int) (v2 : Int) (H : ((0 : Int) ≤ (886 + (S.2.2 9 5)) ∧ (886 + (S.2.2 9 5)) < 1526 ∧ ((0 : Int) ≤ (1206 + (S.2.2 9 5)) ∧ (1206 + (S.2.2 9 5)) < 1526 ∧ pw_Cl E m_X2_lesser d [.int (iI 319), .int (iI ((S.2.2 9 5) + 1))] (tw w0 m (tw_sa (tw_sa S 9 (Int.toNat (886 + (S.2.2 9 5))) v2) 9 (Int.toNat (1206 + (S.2.2 9 5))) v1)) (c_i (t_i w0 m (fun z8 S7 => Post (.inl (some (.int (iI (S.2.2 9 5))))) (tw w0 m (tw_sa S7 9 5 z8)))))))) : pw_Wp E m_X2_newToken (d + 1) 0 [some (va_rf (some m)), some (.int (iI v1)), some (.int (iI v2)), none] [] (tw w0 m S) Post := by
  refine s_X2_newToken_0 (some m) (iI v1) (iI v2) ?_
  refine tw_getr rfl ?_
  refine tw_aldi (k := 9) (t := 5) rfl rfl (by decide) (by decide) ?_
  refine tw_getr rfl ?_
  obtain ⟨h3, h4, H⟩ := H
  refine tw_asti (k := 9) (t := (886 + (S.2.2 9 5))) (x := v2) hm rfl (iI_addE rfl rfl) h3 h4 rfl ?_
  refine tw_getr rfl ?_
  obtain ⟨h5, h6, H⟩ := H
  refine tw_asti (k := 9) (t := (1206 + (S.2.2 9 5))) (x := v1) hm rfl (iI_addE rfl rfl) h5 h6 rfl ?_
  refine tw_getr rfl ?_
  refine pw_avE (l_i rfl (l_i (iI_addE rfl rfl) l_0)) (H.mono (t_iE (fun z8 S7 H => ?_)))
  refine tw_asti (k := 9) (t := 5) (x := z8) hm rfl rfl (by decide) (by decide) rfl ?_
  exact c_pi rfl H
theorem t_X2_noteFit_0 {E : pw_E} {d : Nat} {w0 : pw_W} {m : Nat} {S : tw_S} {Post : pw_R → pw_W → Prop} (hm : pw_base E ≤ m) (v1 : Int) (v2 : Int) (H : (rI (S.1 31) ∧ rI v2 ∧ if (S.1 31) = v2 then pw_Cl E m_X2_widened d [.int (iI v1)] (tw w0 m (tw_sf (tw_sf S 32 v1) 31 ((S.1 31) + 1))) (c_i (t_i w0 m (fun z2 S1 => pw_Wp E m_X2_noteFit (d + 1) 51 [some (va_rf (some m)), some (.int (iI v1)), none, some (.int (iI 0)), none, none] [] (tw w0 m (tw_sf S1 33 (Int32.toInt ((iI (S.1 33)) ||| (1 <<< ((iI z2) / 19683 &&& 31)))))) Post))) else pw_Cl E m_X2_widened d [.int (iI v1)] (tw w0 m (tw_sf (tw_sf S 32 (S.1 32)) 31 ((S.1 31) + 1))) (c_i (t_i w0 m (fun z4 S3 => pw_Wp E m_X2_noteFit (d + 1) 51 [some (va_rf (some m)), some (.int (iI v1)), none, some (.int (iI 0)), none, none] [] (tw w0 m (tw_sf S3 33 (Int32.toInt ((iI (S.1 33)) ||| (1 <<< ((iI z4) / 19683 &&& 31)))))) Post))))) : pw_Wp E m_X2_noteFit (d + 1) 0 [some (va_rf (some m)), some (.int (iI v1)), some (.int (iI v2)), none, none, none] [] (tw w0 m S) Post := by
  refine s_X2_noteFit_0 (some m) (iI v1) (iI v2) ?_
  refine tw_geti rfl ?_
  obtain ⟨h5, H⟩ := H
  obtain ⟨h6, H⟩ := H
  refine f_eqE (s := (S.1 31)) (t := v2) rfl rfl h5 h6 H (fun H => ?_) (fun H => ?_)
  · refine tw_puti (x := v1) hm rfl rfl ?_
    refine tw_geti rfl ?_
    refine tw_puti (x := ((S.1 31) + 1)) hm rfl (iI_addE rfl rfl) ?_
    refine tw_geti rfl ?_
    refine pw_avE (l_i rfl l_0) (H.mono (t_iE (fun z2 S1 H => ?_)))
    refine tw_puti (x := (Int32.toInt ((iI (S.1 33)) ||| (1 <<< ((iI z2) / 19683 &&& 31))))) hm rfl (iI_oE _) ?_
    exact pw_eqL (g_k (g_i rfl (g_k (g_i rfl (g_k (g_k g_0)))))) H
  · refine tw_geti rfl ?_
    refine tw_puti (x := (S.1 32)) hm rfl rfl ?_
    refine tw_geti rfl ?_
    refine tw_puti (x := ((S.1 31) + 1)) hm rfl (iI_addE rfl rfl) ?_
    refine tw_geti rfl ?_
    refine pw_avE (l_i rfl l_0) (H.mono (t_iE (fun z4 S3 H => ?_)))
    refine tw_puti (x := (Int32.toInt ((iI (S.1 33)) ||| (1 <<< ((iI z4) / 19683 &&& 31))))) hm rfl (iI_oE _) ?_
    exact pw_eqL (g_k (g_i rfl (g_k (g_i rfl (g_k (g_k g_0)))))) H
theorem t_X2_noteFit_51 {E : pw_E} {d : Nat} {w0 : pw_W} {m : Nat} {S : tw_S} {Post : pw_R → pw_W → Prop} (hm : pw_base E ≤ m) (v1 : Int) (v3 : Int) (H : (rI v3 ∧ if (40 : Int) ≤ v3 then Post (.inl none) (tw w0 m S) else ((0 : Int) ≤ v3 ∧ v3 < 40 ∧ pw_Cl E m_X2_isVersion d [va_rf (some m), .int (iI (Int32.toInt ((iI v3) / 10))), .int (iI (Int32.toInt ((iI v3) - (iI v3) / 10 * 10)))] (tw w0 m S) (c_z (t_b w0 m (fun b4 S3 => (if b4 = true then pw_Cl E m_X2_timesIn d [va_rf (some m), .int (iI (Int32.toInt ((iI v3) / 10))), .int (iI (Int32.toInt ((iI v3) - (iI v3) / 10 * 10))), .int (iI v1)] (tw w0 m S3) (c_i (t_i w0 m (fun z8 S7 => (rI z8 ∧ if z8 ≤ 0 then ((0 : Int) ≤ v3 ∧ v3 < 40 ∧ pw_Wp E m_X2_noteFit (d + 1) 51 [some (va_rf (some m)), some (.int (iI v1)), none, some (.int (iI (v3 + 1))), none, none] [] (tw w0 m (tw_sa S7 15 (Int.toNat v3) ((S.2.2 15 (Int.toNat v3)) + 0))) Post) else ((0 : Int) ≤ v3 ∧ v3 < 40 ∧ pw_Wp E m_X2_noteFit (d + 1) 51 [some (va_rf (some m)), some (.int (iI v1)), none, some (.int (iI (v3 + 1))), none, none] [] (tw w0 m (tw_sa S7 15 (Int.toNat v3) ((S.2.2 15 (Int.toNat v3)) + 1))) Post))))) else ((0 : Int) ≤ v3 ∧ v3 < 40 ∧ pw_Wp E m_X2_noteFit (d + 1) 51 [some (va_rf (some m)), some (.int (iI v1)), none, some (.int (iI (v3 + 1))), none, none] [] (tw w0 m (tw_sa S3 15 (Int.toNat v3) ((S.2.2 15 (Int.toNat v3)) + 0))) Post)))))))) : pw_Wp E m_X2_noteFit (d + 1) 51 [some (va_rf (some m)), some (.int (iI v1)), none, some (.int (iI v3)), none, none] [] (tw w0 m S) Post := by
  refine s_X2_noteFit_51 (some m) (iI v1) (iI v3) ?_
  obtain ⟨h14, H⟩ := H
  refine f_leE (s := 40) (t := v3) rfl rfl (by constructor <;> decide) h14 H (fun H => ?_) (fun H => ?_)
  · exact H
  · refine tw_getr rfl ?_
    obtain ⟨h1, h2, H⟩ := H
    refine tw_aldi (k := 15) (t := v3) rfl rfl h1 h2 ?_
    refine tw_V ?_
    refine pw_avE (l_k (l_i (iI_oE _) (l_i (iI_oE _) l_0))) (H.mono (t_bE (fun b4 S3 H => ?_)))
    refine f_bE H (fun H => ?_) (fun H => ?_)
    · obtain ⟨h5, h6, H⟩ := H
      refine tw_asti (k := 15) (t := v3) (x := ((S.2.2 15 (Int.toNat v3)) + 0)) hm rfl rfl h5 h6 (iI_addE rfl rfl) ?_
      exact pw_eqL (g_k (g_i rfl (g_k (g_i (iI_addE rfl rfl) (g_k (g_k g_0)))))) H
    · refine tw_V ?_
      refine pw_avE (l_k (l_i (iI_oE _) (l_i (iI_oE _) (l_i rfl l_0)))) (H.mono (t_iE (fun z8 S7 H => ?_)))
      obtain ⟨h13, H⟩ := H
      refine f_leE (s := z8) (t := 0) rfl rfl h13 (by constructor <;> decide) H (fun H => ?_) (fun H => ?_)
      · obtain ⟨h9, h10, H⟩ := H
        refine tw_asti (k := 15) (t := v3) (x := ((S.2.2 15 (Int.toNat v3)) + 0)) hm rfl rfl h9 h10 (iI_addE rfl rfl) ?_
        exact pw_eqL (g_k (g_i rfl (g_k (g_i (iI_addE rfl rfl) (g_k (g_k g_0)))))) H
      · obtain ⟨h11, h12, H⟩ := H
        refine tw_asti (k := 15) (t := v3) (x := ((S.2.2 15 (Int.toNat v3)) + 1)) hm rfl rfl h11 h12 (iI_addE rfl rfl) ?_
        exact pw_eqL (g_k (g_i rfl (g_k (g_i (iI_addE rfl rfl) (g_k (g_k g_0)))))) H
theorem t_X2_numberOf_0 {E : pw_E} {d : Nat} {w0 : pw_W} {m : Nat} {S : tw_S} {Post : pw_R → pw_W → Prop} (hm : pw_base E ≤ m) (v0 : Int64) (H : pw_Wp E m_X2_numberOf (d + 1) 5 [some (.long v0), none, some (.int (iI 0)), some (.int (iI 24)), none] [] (tw w0 m S) Post) : pw_Wp E m_X2_numberOf (d + 1) 0 [some (.long v0), none, none, none, none] [] (tw w0 m S) Post := by
  refine s_X2_numberOf_0 v0 ?_
  exact pw_eqL (g_k (g_k (g_i rfl (g_i rfl (g_k g_0))))) H
theorem t_X2_numberOf_5 {E : pw_E} {d : Nat} {w0 : pw_W} {m : Nat} {S : tw_S} {Post : pw_R → pw_W → Prop} (hm : pw_base E ≤ m) (v0 : Int64) (v2 : Int) (v3 : Int) (H : (rI v3 ∧ if v3 < 0 then Post (.inl (some (.int (iI v2)))) (tw w0 m S) else (if (Int32.toInt (((v0 >>> ((iI v3).toInt64 &&& 63)) &&& 255).toInt32)) = 0 then pw_Wp E m_X2_numberOf (d + 1) 5 [some (.long v0), none, some (.int (iI v2)), some (.int (iI (v3 + (-8)))), none] [] (tw w0 m S) Post else pw_Wp E m_X2_numberOf (d + 1) 5 [some (.long v0), none, some (.int (iI (((27 * v2) + (Int32.toInt (((v0 >>> ((iI v3).toInt64 &&& 63)) &&& 255).toInt32))) - 96))), some (.int (iI (v3 + (-8)))), none] [] (tw w0 m S) Post))) : pw_Wp E m_X2_numberOf (d + 1) 5 [some (.long v0), none, some (.int (iI v2)), some (.int (iI v3)), none] [] (tw w0 m S) Post := by
  refine s_X2_numberOf_5 v0 (iI v2) (iI v3) ?_
  obtain ⟨h1, H⟩ := H
  refine f_ltE (s := v3) (t := 0) rfl rfl h1 (by constructor <;> decide) H (fun H => ?_) (fun H => ?_)
  · exact c_pi rfl H
  · refine f_eqE (s := (Int32.toInt (((v0 >>> ((iI v3).toInt64 &&& 63)) &&& 255).toInt32))) (t := 0) (iI_oE _) rfl (rI_of _) (by constructor <;> decide) H (fun H => ?_) (fun H => ?_)
    · exact pw_eqL (g_k (g_k (g_i rfl (g_i (iI_addE rfl rfl) (g_k g_0))))) H
    · exact pw_eqL (g_k (g_k (g_i (iI_subE (iI_addE (iI_mulE rfl rfl) (iI_oE _)) rfl) (g_i (iI_addE rfl rfl) (g_k g_0))))) H
theorem t_X2_ofAsking_0 {E : pw_E} {d : Nat} {w0 : pw_W} {m : Nat} {S : tw_S} {Post : pw_R → pw_W → Prop} (hm : pw_base E ≤ m) (v1 : Int) (v2 : Int) (H : ((0 : Int) ≤ ((((57 * (S.1 28)) + 1) + (7 * v1)) + v2) ∧ ((((57 * (S.1 28)) + 1) + (7 * v1)) + v2) < 456 ∧ Post (.inl (some (.int (iI (S.2.2 7 (Int.toNat ((((57 * (S.1 28)) + 1) + (7 * v1)) + v2))))))) (tw w0 m S))) : pw_Wp E m_X2_ofAsking (d + 1) 0 [some (va_rf (some m)), some (.int (iI v1)), some (.int (iI v2))] [] (tw w0 m S) Post := by
  refine s_X2_ofAsking_0 (some m) (iI v1) (iI v2) ?_
  refine tw_getr rfl ?_
  refine tw_geti rfl ?_
  obtain ⟨h1, h2, H⟩ := H
  refine tw_aldi (k := 7) (t := ((((57 * (S.1 28)) + 1) + (7 * v1)) + v2)) rfl (iI_addE (iI_addE (iI_addE (iI_mulE rfl rfl) rfl) (iI_mulE rfl rfl)) rfl) h1 h2 ?_
  exact c_pi rfl H
theorem t_X2_ofDoc_0 {E : pw_E} {d : Nat} {w0 : pw_W} {m : Nat} {S : tw_S} {Post : pw_R → pw_W → Prop} (hm : pw_base E ≤ m) (v1 : Int) (v2 : Int) (H : pw_Cl E m_X2_isDoc d [va_rf (some m), .int (iI v1)] (tw w0 m S) (c_z (t_b w0 m (fun b2 S1 => (if b2 = true then (rI v2 ∧ if v2 = 1 then pw_Cl E m_X2_versions d [va_rf (some m), .int (iI v1)] (tw w0 m S1) (c_i (t_i w0 m (fun z4 S3 => Post (.inl (some (.int (iI z4)))) (tw w0 m S3)))) else (rI v2 ∧ if v2 = 2 then (rI v2 ∧ if v2 = 3 then pw_Cl E m_X2_passages d [va_rf (some m), .int (iI v1), .int (iI 1)] (tw w0 m S1) (c_i (t_i w0 m (fun z6 S5 => Post (.inl (some (.int (iI z6)))) (tw w0 m S5)))) else pw_Cl E m_X2_passages d [va_rf (some m), .int (iI v1), .int (iI 0)] (tw w0 m S1) (c_i (t_i w0 m (fun z8 S7 => Post (.inl (some (.int (iI z8)))) (tw w0 m S7))))) else (rI v2 ∧ if v2 = 3 then (rI v2 ∧ if v2 = 3 then pw_Cl E m_X2_passages d [va_rf (some m), .int (iI v1), .int (iI 1)] (tw w0 m S1) (c_i (t_i w0 m (fun z11 S10 => Post (.inl (some (.int (iI z11)))) (tw w0 m S10)))) else pw_Cl E m_X2_passages d [va_rf (some m), .int (iI v1), .int (iI 0)] (tw w0 m S1) (c_i (t_i w0 m (fun z13 S12 => Post (.inl (some (.int (iI z13)))) (tw w0 m S12))))) else (rI v2 ∧ if v2 = 4 then pw_Cl E m_X2_keptIn d [va_rf (some m), .int (iI v1)] (tw w0 m S1) (c_i (t_i w0 m (fun z16 S15 => Post (.inl (some (.int (iI z16)))) (tw w0 m S15)))) else (rI v2 ∧ if v2 = 5 then pw_Cl E m_X2_returns d [va_rf (some m), .int (iI v1)] (tw w0 m S1) (c_i (t_i w0 m (fun z18 S17 => Post (.inl (some (.int (iI z18)))) (tw w0 m S17)))) else Post (.inl (some (.int (iI (-2))))) (tw w0 m S1)))))) else Post (.inl (some (.int (iI (-2))))) (tw w0 m S1)))))) : pw_Wp E m_X2_ofDoc (d + 1) 0 [some (va_rf (some m)), some (.int (iI v1)), some (.int (iI v2))] [] (tw w0 m S) Post := by
  refine s_X2_ofDoc_0 (some m) (iI v1) (iI v2) ?_
  refine tw_V ?_
  refine pw_avE (l_k (l_i rfl l_0)) (H.mono (t_bE (fun b2 S1 H => ?_)))
  refine f_bE H (fun H => ?_) (fun H => ?_)
  · exact c_pi rfl H
  · obtain ⟨h23, H⟩ := H
    refine f_eqE (s := v2) (t := 1) rfl rfl h23 (by constructor <;> decide) H (fun H => ?_) (fun H => ?_)
    · refine tw_V ?_
      refine pw_avE (l_k (l_i rfl l_0)) (H.mono (t_iE (fun z4 S3 H => ?_)))
      exact c_pi rfl H
    · obtain ⟨h22, H⟩ := H
      refine f_eqE (s := v2) (t := 2) rfl rfl h22 (by constructor <;> decide) H (fun H => ?_) (fun H => ?_)
      · obtain ⟨h9, H⟩ := H
        refine f_eqE (s := v2) (t := 3) rfl rfl h9 (by constructor <;> decide) H (fun H => ?_) (fun H => ?_)
        · refine tw_V ?_
          refine pw_avE (l_k (l_i rfl (l_i rfl l_0))) (H.mono (t_iE (fun z6 S5 H => ?_)))
          exact c_pi rfl H
        · refine tw_V ?_
          refine pw_avE (l_k (l_i rfl (l_i rfl l_0))) (H.mono (t_iE (fun z8 S7 H => ?_)))
          exact c_pi rfl H
      · obtain ⟨h21, H⟩ := H
        refine f_eqE (s := v2) (t := 3) rfl rfl h21 (by constructor <;> decide) H (fun H => ?_) (fun H => ?_)
        · obtain ⟨h14, H⟩ := H
          refine f_eqE (s := v2) (t := 3) rfl rfl h14 (by constructor <;> decide) H (fun H => ?_) (fun H => ?_)
          · refine tw_V ?_
            refine pw_avE (l_k (l_i rfl (l_i rfl l_0))) (H.mono (t_iE (fun z11 S10 H => ?_)))
            exact c_pi rfl H
          · refine tw_V ?_
            refine pw_avE (l_k (l_i rfl (l_i rfl l_0))) (H.mono (t_iE (fun z13 S12 H => ?_)))
            exact c_pi rfl H
        · obtain ⟨h20, H⟩ := H
          refine f_eqE (s := v2) (t := 4) rfl rfl h20 (by constructor <;> decide) H (fun H => ?_) (fun H => ?_)
          · refine tw_V ?_
            refine pw_avE (l_k (l_i rfl l_0)) (H.mono (t_iE (fun z16 S15 H => ?_)))
            exact c_pi rfl H
          · obtain ⟨h19, H⟩ := H
            refine f_eqE (s := v2) (t := 5) rfl rfl h19 (by constructor <;> decide) H (fun H => ?_) (fun H => ?_)
            · refine tw_V ?_
              refine pw_avE (l_k (l_i rfl l_0)) (H.mono (t_iE (fun z18 S17 H => ?_)))
              exact c_pi rfl H
            · exact c_pi rfl H
theorem t_X2_ofWord_0 {E : pw_E} {d : Nat} {w0 : pw_W} {m : Nat} {S : tw_S} {Post : pw_R → pw_W → Prop} (hm : pw_base E ≤ m) (v1 : Int) (v2 : Int) (H : pw_Wp E m_X2_ofWord (d + 1) 16 [some (va_rf (some m)), some (.int (iI v1)), some (.int (iI v2)), some (.int (iI 0)), some (.int (iI 0)), some (.int (iI 1000000)), some (.int (iI 0)), some (.int (iI 0)), none, none, none] [] (tw w0 m S) Post) : pw_Wp E m_X2_ofWord (d + 1) 0 [some (va_rf (some m)), some (.int (iI v1)), some (.int (iI v2)), none, none, none, none, none, none, none, none] [] (tw w0 m S) Post := by
  refine s_X2_ofWord_0 (some m) (iI v1) (iI v2) ?_
  exact pw_eqL (g_k (g_i rfl (g_i rfl (g_i rfl (g_i rfl (g_i rfl (g_i rfl (g_i rfl (g_k (g_k (g_k g_0))))))))))) H
theorem t_X2_ofWord_16 {E : pw_E} {d : Nat} {w0 : pw_W} {m : Nat} {S : tw_S} {Post : pw_R → pw_W → Prop} (hm : pw_base E ≤ m) (v1 : Int) (v2 : Int) (v3 : Int) (v4 : Int) (v5 : Int) (v6 : Int) (v7 : Int) (H : (rI v7 ∧ if (40 : Int) ≤ v7 then (rI v2 ∧ if v2 = 0 then Post (.inl (some (.int (iI v1)))) (tw w0 m S) else (rI v2 ∧ if v2 = 1 then Post (.inl (some (.int (iI v3)))) (tw w0 m S) else (rI v2 ∧ if v2 = 2 then Post (.inl (some (.int (iI v4)))) (tw w0 m S) else (rI v2 ∧ if v2 = 3 then Post (.inl (some (.int (iI v5)))) (tw w0 m S) else (rI v2 ∧ if v2 = 4 then Post (.inl (some (.int (iI v6)))) (tw w0 m S) else Post (.inl (some (.int (iI (-1))))) (tw w0 m S)))))) else pw_Cl E m_X2_isVersion d [va_rf (some m), .int (iI (Int32.toInt ((iI v7) / 10))), .int (iI (Int32.toInt ((iI v7) - (iI v7) / 10 * 10)))] (tw w0 m S) (c_z (t_b w0 m (fun b7 S6 => (if b7 = true then pw_Cl E m_X2_timesIn d [va_rf (some m), .int (iI (Int32.toInt ((iI v7) / 10))), .int (iI (Int32.toInt ((iI v7) - (iI v7) / 10 * 10))), .int (iI v1)] (tw w0 m S6) (c_i (t_i w0 m (fun z9 S8 => (rI z9 ∧ if z9 ≤ 0 then pw_Wp E m_X2_ofWord (d + 1) 74 [some (va_rf (some m)), some (.int (iI v1)), some (.int (iI v2)), none, some (.int (iI v4)), some (.int (iI v5)), some (.int (iI v6)), some (.int (iI v7)), some (.int (iI (Int32.toInt ((iI v7) / 10)))), none, some (.int (iI z9))] [.int (iI 0), .int (iI v3)] (tw w0 m S8) Post else pw_Wp E m_X2_ofWord (d + 1) 74 [some (va_rf (some m)), some (.int (iI v1)), some (.int (iI v2)), none, some (.int (iI v4)), some (.int (iI v5)), some (.int (iI v6)), some (.int (iI v7)), some (.int (iI (Int32.toInt ((iI v7) / 10)))), none, some (.int (iI z9))] [.int (iI 1), .int (iI v3)] (tw w0 m S8) Post)))) else pw_Wp E m_X2_ofWord (d + 1) 74 [some (va_rf (some m)), some (.int (iI v1)), some (.int (iI v2)), none, some (.int (iI v4)), some (.int (iI v5)), some (.int (iI v6)), some (.int (iI v7)), some (.int (iI (Int32.toInt ((iI v7) / 10)))), none, some (.int (iI 0))] [.int (iI 0), .int (iI v3)] (tw w0 m S6) Post)))))) : pw_Wp E m_X2_ofWord (d + 1) 16 [some (va_rf (some m)), some (.int (iI v1)), some (.int (iI v2)), some (.int (iI v3)), some (.int (iI v4)), some (.int (iI v5)), some (.int (iI v6)), some (.int (iI v7)), none, none, none] [] (tw w0 m S) Post := by
  refine s_X2_ofWord_16 (some m) (iI v1) (iI v2) (iI v3) (iI v4) (iI v5) (iI v6) (iI v7) ?_
  obtain ⟨h11, H⟩ := H
  refine f_leE (s := 40) (t := v7) rfl rfl (by constructor <;> decide) h11 H (fun H => ?_) (fun H => ?_)
  · obtain ⟨h5, H⟩ := H
    refine f_eqE (s := v2) (t := 0) rfl rfl h5 (by constructor <;> decide) H (fun H => ?_) (fun H => ?_)
    · exact c_pi rfl H
    · obtain ⟨h4, H⟩ := H
      refine f_eqE (s := v2) (t := 1) rfl rfl h4 (by constructor <;> decide) H (fun H => ?_) (fun H => ?_)
      · exact c_pi rfl H
      · obtain ⟨h3, H⟩ := H
        refine f_eqE (s := v2) (t := 2) rfl rfl h3 (by constructor <;> decide) H (fun H => ?_) (fun H => ?_)
        · exact c_pi rfl H
        · obtain ⟨h2, H⟩ := H
          refine f_eqE (s := v2) (t := 3) rfl rfl h2 (by constructor <;> decide) H (fun H => ?_) (fun H => ?_)
          · exact c_pi rfl H
          · obtain ⟨h1, H⟩ := H
            refine f_eqE (s := v2) (t := 4) rfl rfl h1 (by constructor <;> decide) H (fun H => ?_) (fun H => ?_)
            · exact c_pi rfl H
            · exact c_pi rfl H
  · refine tw_V ?_
    refine pw_avE (l_k (l_i (iI_oE _) (l_i (iI_oE _) l_0))) (H.mono (t_bE (fun b7 S6 H => ?_)))
    refine f_bE H (fun H => ?_) (fun H => ?_)
    · refine pw_stE (l_i rfl (l_i rfl l_0)) ?_
      exact pw_eqL (g_k (g_i rfl (g_i rfl (g_k (g_i rfl (g_i rfl (g_i rfl (g_i rfl (g_i (iI_oE _) (g_k (g_i rfl g_0))))))))))) H
    · refine tw_V ?_
      refine pw_avE (l_k (l_i (iI_oE _) (l_i (iI_oE _) (l_i rfl l_0)))) (H.mono (t_iE (fun z9 S8 H => ?_)))
      obtain ⟨h10, H⟩ := H
      refine f_leE (s := z9) (t := 0) rfl rfl h10 (by constructor <;> decide) H (fun H => ?_) (fun H => ?_)
      · refine pw_stE (l_i rfl (l_i rfl l_0)) ?_
        exact pw_eqL (g_k (g_i rfl (g_i rfl (g_k (g_i rfl (g_i rfl (g_i rfl (g_i rfl (g_i (iI_oE _) (g_k (g_i rfl g_0))))))))))) H
      · refine pw_stE (l_i rfl (l_i rfl l_0)) ?_
        exact pw_eqL (g_k (g_i rfl (g_i rfl (g_k (g_i rfl (g_i rfl (g_i rfl (g_i rfl (g_i (iI_oE _) (g_k (g_i rfl g_0))))))))))) H
theorem t_X2_ofWord_74 {E : pw_E} {d : Nat} {w0 : pw_W} {m : Nat} {S : tw_S} {Post : pw_R → pw_W → Prop} (hm : pw_base E ≤ m) (v1 : Int) (v2 : Int) (v4 : Int) (v5 : Int) (v6 : Int) (v7 : Int) (v8 : Int) (v10 : Int) (u0 : Int) (u1 : Int) (H : (rI v10 ∧ if v10 ≤ 0 then (rI v10 ∧ if v10 ≤ 0 then pw_Cl E m_X2_greater d [.int (iI v6), .int (iI v10)] (tw w0 m S) (c_i (t_i w0 m (fun z2 S1 => pw_Wp E m_X2_ofWord (d + 1) 16 [some (va_rf (some m)), some (.int (iI v1)), some (.int (iI v2)), some (.int (iI (u1 + u0))), some (.int (iI (Int32.toInt ((iI v4) ||| 0)))), some (.int (iI v5)), some (.int (iI z2)), some (.int (iI (v7 + 1))), none, none, none] [] (tw w0 m S1) Post))) else ((0 : Int) ≤ (6 + v7) ∧ (6 + v7) < 1526 ∧ pw_Cl E m_X2_lesser d [.int (iI v5), .int (iI (S.2.2 9 (Int.toNat (6 + v7))))] (tw w0 m S) (c_i (t_i w0 m (fun z6 S5 => pw_Cl E m_X2_greater d [.int (iI v6), .int (iI v10)] (tw w0 m S5) (c_i (t_i w0 m (fun z8 S7 => pw_Wp E m_X2_ofWord (d + 1) 16 [some (va_rf (some m)), some (.int (iI v1)), some (.int (iI v2)), some (.int (iI (u1 + u0))), some (.int (iI (Int32.toInt ((iI v4) ||| 0)))), some (.int (iI z6)), some (.int (iI z8)), some (.int (iI (v7 + 1))), none, none, none] [] (tw w0 m S7) Post)))))))) else (rI v10 ∧ if v10 ≤ 0 then pw_Cl E m_X2_greater d [.int (iI v6), .int (iI v10)] (tw w0 m S) (c_i (t_i w0 m (fun z11 S10 => pw_Wp E m_X2_ofWord (d + 1) 16 [some (va_rf (some m)), some (.int (iI v1)), some (.int (iI v2)), some (.int (iI (u1 + u0))), some (.int (iI (Int32.toInt ((iI v4) ||| (1 <<< ((iI v8) &&& 31)))))), some (.int (iI v5)), some (.int (iI z11)), some (.int (iI (v7 + 1))), none, none, none] [] (tw w0 m S10) Post))) else ((0 : Int) ≤ (6 + v7) ∧ (6 + v7) < 1526 ∧ pw_Cl E m_X2_lesser d [.int (iI v5), .int (iI (S.2.2 9 (Int.toNat (6 + v7))))] (tw w0 m S) (c_i (t_i w0 m (fun z15 S14 => pw_Cl E m_X2_greater d [.int (iI v6), .int (iI v10)] (tw w0 m S14) (c_i (t_i w0 m (fun z17 S16 => pw_Wp E m_X2_ofWord (d + 1) 16 [some (va_rf (some m)), some (.int (iI v1)), some (.int (iI v2)), some (.int (iI (u1 + u0))), some (.int (iI (Int32.toInt ((iI v4) ||| (1 <<< ((iI v8) &&& 31)))))), some (.int (iI z15)), some (.int (iI z17)), some (.int (iI (v7 + 1))), none, none, none] [] (tw w0 m S16) Post)))))))))) : pw_Wp E m_X2_ofWord (d + 1) 74 [some (va_rf (some m)), some (.int (iI v1)), some (.int (iI v2)), none, some (.int (iI v4)), some (.int (iI v5)), some (.int (iI v6)), some (.int (iI v7)), some (.int (iI v8)), none, some (.int (iI v10))] [.int (iI u0), .int (iI u1)] (tw w0 m S) Post := by
  refine s_X2_ofWord_74 (some m) (iI v1) (iI v2) (iI v4) (iI v5) (iI v6) (iI v7) (iI v8) (iI v10) (iI u0) (iI u1) ?_
  obtain ⟨h19, H⟩ := H
  refine f_leE (s := v10) (t := 0) rfl rfl h19 (by constructor <;> decide) H (fun H => ?_) (fun H => ?_)
  · obtain ⟨h9, H⟩ := H
    refine f_leE (s := v10) (t := 0) rfl rfl h9 (by constructor <;> decide) H (fun H => ?_) (fun H => ?_)
    · refine pw_avE (l_i rfl (l_i rfl l_0)) (H.mono (t_iE (fun z2 S1 H => ?_)))
      exact pw_eqL (g_k (g_i rfl (g_i rfl (g_i (iI_addE rfl rfl) (g_i (iI_oE _) (g_i rfl (g_i rfl (g_i (iI_addE rfl rfl) (g_k (g_k (g_k g_0))))))))))) H
    · refine tw_getr rfl ?_
      obtain ⟨h3, h4, H⟩ := H
      refine tw_aldi (k := 9) (t := (6 + v7)) rfl (iI_addE rfl rfl) h3 h4 ?_
      refine pw_avE (l_i rfl (l_i rfl l_0)) (H.mono (t_iE (fun z6 S5 H => ?_)))
      refine pw_avE (l_i rfl (l_i rfl l_0)) (H.mono (t_iE (fun z8 S7 H => ?_)))
      exact pw_eqL (g_k (g_i rfl (g_i rfl (g_i (iI_addE rfl rfl) (g_i (iI_oE _) (g_i rfl (g_i rfl (g_i (iI_addE rfl rfl) (g_k (g_k (g_k g_0))))))))))) H
  · obtain ⟨h18, H⟩ := H
    refine f_leE (s := v10) (t := 0) rfl rfl h18 (by constructor <;> decide) H (fun H => ?_) (fun H => ?_)
    · refine pw_avE (l_i rfl (l_i rfl l_0)) (H.mono (t_iE (fun z11 S10 H => ?_)))
      exact pw_eqL (g_k (g_i rfl (g_i rfl (g_i (iI_addE rfl rfl) (g_i (iI_oE _) (g_i rfl (g_i rfl (g_i (iI_addE rfl rfl) (g_k (g_k (g_k g_0))))))))))) H
    · refine tw_getr rfl ?_
      obtain ⟨h12, h13, H⟩ := H
      refine tw_aldi (k := 9) (t := (6 + v7)) rfl (iI_addE rfl rfl) h12 h13 ?_
      refine pw_avE (l_i rfl (l_i rfl l_0)) (H.mono (t_iE (fun z15 S14 H => ?_)))
      refine pw_avE (l_i rfl (l_i rfl l_0)) (H.mono (t_iE (fun z17 S16 H => ?_)))
      exact pw_eqL (g_k (g_i rfl (g_i rfl (g_i (iI_addE rfl rfl) (g_i (iI_oE _) (g_i rfl (g_i rfl (g_i (iI_addE rfl rfl) (g_k (g_k (g_k g_0))))))))))) H
theorem t_X2_oldest_0 {E : pw_E} {d : Nat} {w0 : pw_W} {m : Nat} {S : tw_S} {Post : pw_R → pw_W → Prop} (hm : pw_base E ≤ m) (v1 : Int) (v2 : Int) (H : pw_Wp E m_X2_oldest (d + 1) 8 [some (va_rf (some m)), some (.int (iI v1)), some (.int (iI v2)), some (.int (iI (-1))), some (.int (iI 0)), some (.int (iI 0)), none] [] (tw w0 m S) Post) : pw_Wp E m_X2_oldest (d + 1) 0 [some (va_rf (some m)), some (.int (iI v1)), some (.int (iI v2)), none, none, none, none] [] (tw w0 m S) Post := by
  refine s_X2_oldest_0 (some m) (iI v1) (iI v2) ?_
  exact pw_eqL (g_k (g_i rfl (g_i rfl (g_i rfl (g_i rfl (g_i rfl (g_k g_0))))))) H
theorem t_X2_oldest_8 {E : pw_E} {d : Nat} {w0 : pw_W} {m : Nat} {S : tw_S} {Post : pw_R → pw_W → Prop} (hm : pw_base E ≤ m) (v1 : Int) (v2 : Int) (v3 : Int) (v4 : Int) (v5 : Int) (H : pw_Cl E m_X2_longOf d [va_rf (some m), .int (iI v1), .int (iI v2)] (tw w0 m S) (c_i (t_i w0 m (fun z2 S1 => (rI z2 ∧ rI v5 ∧ if z2 ≤ v5 then Post (.inl (some (.int (iI v3)))) (tw w0 m S1) else pw_Cl E m_X2_tokenAt d [va_rf (some m), .int (iI v1), .int (iI v2), .int (iI v5)] (tw w0 m S1) (c_i (t_i w0 m (fun z4 S3 => pw_Cl E m_X2_whereIs d [va_rf (some m), .int (iI z4)] (tw w0 m S3) (c_i (t_i w0 m (fun z6 S5 => pw_Cl E m_X2_ones d [.int (iI (Int32.toInt ((iI z6) &&& ((2 <<< ((iI v2) &&& 31)) - 1))))] (tw w0 m S5) (c_i (t_i w0 m (fun z8 S7 => (rI z8 ∧ rI v4 ∧ if z8 ≤ v4 then pw_Cl E m_X2_greater d [.int (iI v4), .int (iI z8)] (tw w0 m S7) (c_i (t_i w0 m (fun z10 S9 => pw_Wp E m_X2_oldest (d + 1) 8 [some (va_rf (some m)), some (.int (iI v1)), some (.int (iI v2)), some (.int (iI v3)), some (.int (iI z10)), some (.int (iI (v5 + 1))), none] [] (tw w0 m S9) Post))) else pw_Cl E m_X2_greater d [.int (iI v4), .int (iI z8)] (tw w0 m S7) (c_i (t_i w0 m (fun z12 S11 => pw_Wp E m_X2_oldest (d + 1) 8 [some (va_rf (some m)), some (.int (iI v1)), some (.int (iI v2)), some (.int (iI v5)), some (.int (iI z12)), some (.int (iI (v5 + 1))), none] [] (tw w0 m S11) Post)))))))))))))))))) : pw_Wp E m_X2_oldest (d + 1) 8 [some (va_rf (some m)), some (.int (iI v1)), some (.int (iI v2)), some (.int (iI v3)), some (.int (iI v4)), some (.int (iI v5)), none] [] (tw w0 m S) Post := by
  refine s_X2_oldest_8 (some m) (iI v1) (iI v2) (iI v3) (iI v4) (iI v5) ?_
  refine tw_V ?_
  refine pw_avE (l_k (l_i rfl (l_i rfl l_0))) (H.mono (t_iE (fun z2 S1 H => ?_)))
  obtain ⟨h15, H⟩ := H
  obtain ⟨h16, H⟩ := H
  refine f_leE (s := z2) (t := v5) rfl rfl h15 h16 H (fun H => ?_) (fun H => ?_)
  · exact c_pi rfl H
  · refine tw_V ?_
    refine pw_avE (l_k (l_i rfl (l_i rfl (l_i rfl l_0)))) (H.mono (t_iE (fun z4 S3 H => ?_)))
    refine tw_V ?_
    refine pw_avE (l_k (l_i rfl l_0)) (H.mono (t_iE (fun z6 S5 H => ?_)))
    refine pw_avE (l_i (iI_oE _) l_0) (H.mono (t_iE (fun z8 S7 H => ?_)))
    obtain ⟨h13, H⟩ := H
    obtain ⟨h14, H⟩ := H
    refine f_leE (s := z8) (t := v4) rfl rfl h13 h14 H (fun H => ?_) (fun H => ?_)
    · refine pw_avE (l_i rfl (l_i rfl l_0)) (H.mono (t_iE (fun z10 S9 H => ?_)))
      exact pw_eqL (g_k (g_i rfl (g_i rfl (g_i rfl (g_i rfl (g_i (iI_addE rfl rfl) (g_k g_0))))))) H
    · refine pw_avE (l_i rfl (l_i rfl l_0)) (H.mono (t_iE (fun z12 S11 H => ?_)))
      exact pw_eqL (g_k (g_i rfl (g_i rfl (g_i rfl (g_i rfl (g_i (iI_addE rfl rfl) (g_k g_0))))))) H
theorem t_X2_ones_0 {E : pw_E} {d : Nat} {w0 : pw_W} {m : Nat} {S : tw_S} {Post : pw_R → pw_W → Prop} (hm : pw_base E ≤ m) (v0 : Int) (H : pw_Wp E m_X2_ones (d + 1) 4 [some (.int (iI v0)), some (.int (iI 0)), some (.int (iI 0))] [] (tw w0 m S) Post) : pw_Wp E m_X2_ones (d + 1) 0 [some (.int (iI v0)), none, none] [] (tw w0 m S) Post := by
  refine s_X2_ones_0 (iI v0) ?_
  exact pw_eqL (g_i rfl (g_i rfl (g_i rfl g_0))) H
theorem t_X2_ones_4 {E : pw_E} {d : Nat} {w0 : pw_W} {m : Nat} {S : tw_S} {Post : pw_R → pw_W → Prop} (hm : pw_base E ≤ m) (v0 : Int) (v1 : Int) (v2 : Int) (H : (rI v2 ∧ if (10 : Int) ≤ v2 then Post (.inl (some (.int (iI v1)))) (tw w0 m S) else pw_Cl E m_X2_has d [.int (iI v0), .int (iI v2)] (tw w0 m S) (c_z (t_b w0 m (fun b2 S1 => (if b2 = true then pw_Wp E m_X2_ones (d + 1) 4 [some (.int (iI v0)), some (.int (iI (v1 + 1))), some (.int (iI (v2 + 1)))] [] (tw w0 m S1) Post else pw_Wp E m_X2_ones (d + 1) 4 [some (.int (iI v0)), some (.int (iI (v1 + 0))), some (.int (iI (v2 + 1)))] [] (tw w0 m S1) Post)))))) : pw_Wp E m_X2_ones (d + 1) 4 [some (.int (iI v0)), some (.int (iI v1)), some (.int (iI v2))] [] (tw w0 m S) Post := by
  refine s_X2_ones_4 (iI v0) (iI v1) (iI v2) ?_
  obtain ⟨h3, H⟩ := H
  refine f_leE (s := 10) (t := v2) rfl rfl (by constructor <;> decide) h3 H (fun H => ?_) (fun H => ?_)
  · exact c_pi rfl H
  · refine pw_avE (l_i rfl (l_i rfl l_0)) (H.mono (t_bE (fun b2 S1 H => ?_)))
    refine f_bE H (fun H => ?_) (fun H => ?_)
    · exact pw_eqL (g_i rfl (g_i (iI_addE rfl rfl) (g_i (iI_addE rfl rfl) g_0))) H
    · exact pw_eqL (g_i rfl (g_i (iI_addE rfl rfl) (g_i (iI_addE rfl rfl) g_0))) H
theorem t_X2_passages_0 {E : pw_E} {d : Nat} {w0 : pw_W} {m : Nat} {S : tw_S} {Post : pw_R → pw_W → Prop} (hm : pw_base E ≤ m) (v1 : Int) (v2 : Bool) (H : pw_Wp E m_X2_passages (d + 1) 8 [some (va_rf (some m)), some (.int (iI v1)), some (.int (bI v2)), some (.int (iI 0)), some (.int (iI 0)), some (.int (iI 0)), none, none, none] [] (tw w0 m S) Post) : pw_Wp E m_X2_passages (d + 1) 0 [some (va_rf (some m)), some (.int (iI v1)), some (.int (bI v2)), none, none, none, none, none, none] [] (tw w0 m S) Post := by
  refine s_X2_passages_0 (some m) (iI v1) v2 ?_
  exact pw_eqL (g_k (g_i rfl (g_k (g_i rfl (g_i rfl (g_i rfl (g_k (g_k (g_k g_0))))))))) H
theorem t_X2_passages_8 {E : pw_E} {d : Nat} {w0 : pw_W} {m : Nat} {S : tw_S} {Post : pw_R → pw_W → Prop} (hm : pw_base E ≤ m) (v1 : Int) (v2 : Bool) (v3 : Int) (v4 : Int) (v5 : Int) (H : (rI (S.1 24) ∧ rI v5 ∧ if (S.1 24) ≤ v5 then (if v2 = true then Post (.inl (some (.int (iI v4)))) (tw w0 m S) else Post (.inl (some (.int (iI v3)))) (tw w0 m S)) else ((0 : Int) ≤ (1206 + v5) ∧ (1206 + v5) < 1526 ∧ (rI (S.2.2 9 (Int.toNat (1206 + v5))) ∧ rI v1 ∧ if (S.2.2 9 (Int.toNat (1206 + v5))) = v1 then pw_Cl E m_X2_whereIs d [va_rf (some m), .int (iI v5)] (tw w0 m S) (c_i (t_i w0 m (fun z4 S3 => (rI z4 ∧ if z4 = 0 then pw_Wp E m_X2_passages (d + 1) 8 [some (va_rf (some m)), some (.int (iI v1)), some (.int (bI v2)), some (.int (iI v3)), some (.int (iI v4)), some (.int (iI (v5 + 1))), none, none, none] [] (tw w0 m S3) Post else pw_Cl E m_X2_hasAhead d [va_rf (some m), .int (iI v1), .int (iI v5), .int (iI z4)] (tw w0 m S3) (c_z (t_b w0 m (fun b6 S5 => (if b6 = true then pw_Wp E m_X2_passages (d + 1) 8 [some (va_rf (some m)), some (.int (iI v1)), some (.int (bI v2)), some (.int (iI v3)), some (.int (iI v4)), some (.int (iI (v5 + 1))), none, none, none] [] (tw w0 m S5) Post else pw_Wp E m_X2_passages (d + 1) 71 [some (va_rf (some m)), some (.int (iI v1)), some (.int (bI v2)), some (.int (iI (v3 + 1))), some (.int (iI v4)), some (.int (iI v5)), some (.int (iI z4)), some (.int (iI 0)), some (.int (iI v5))] [] (tw w0 m S5) Post)))))))) else pw_Wp E m_X2_passages (d + 1) 8 [some (va_rf (some m)), some (.int (iI v1)), some (.int (bI v2)), some (.int (iI v3)), some (.int (iI v4)), some (.int (iI (v5 + 1))), none, none, none] [] (tw w0 m S) Post)))) : pw_Wp E m_X2_passages (d + 1) 8 [some (va_rf (some m)), some (.int (iI v1)), some (.int (bI v2)), some (.int (iI v3)), some (.int (iI v4)), some (.int (iI v5)), none, none, none] [] (tw w0 m S) Post := by
  refine s_X2_passages_8 (some m) (iI v1) v2 (iI v3) (iI v4) (iI v5) ?_
  refine tw_geti rfl ?_
  obtain ⟨h10, H⟩ := H
  obtain ⟨h11, H⟩ := H
  refine f_leE (s := (S.1 24)) (t := v5) rfl rfl h10 h11 H (fun H => ?_) (fun H => ?_)
  · refine f_bE H (fun H => ?_) (fun H => ?_)
    · exact c_pi rfl H
    · exact c_pi rfl H
  · refine tw_getr rfl ?_
    obtain ⟨h1, h2, H⟩ := H
    refine tw_aldi (k := 9) (t := (1206 + v5)) rfl (iI_addE rfl rfl) h1 h2 ?_
    obtain ⟨h8, H⟩ := H
    obtain ⟨h9, H⟩ := H
    refine f_eqE (s := (S.2.2 9 (Int.toNat (1206 + v5)))) (t := v1) rfl rfl h8 h9 H (fun H => ?_) (fun H => ?_)
    · refine tw_V ?_
      refine pw_avE (l_k (l_i rfl l_0)) (H.mono (t_iE (fun z4 S3 H => ?_)))
      obtain ⟨h7, H⟩ := H
      refine f_eqE (s := z4) (t := 0) rfl rfl h7 (by constructor <;> decide) H (fun H => ?_) (fun H => ?_)
      · exact pw_eqL (g_k (g_i rfl (g_k (g_i rfl (g_i rfl (g_i (iI_addE rfl rfl) (g_k (g_k (g_k g_0))))))))) H
      · refine tw_V ?_
        refine pw_avE (l_k (l_i rfl (l_i rfl (l_i rfl l_0)))) (H.mono (t_bE (fun b6 S5 H => ?_)))
        refine f_bE H (fun H => ?_) (fun H => ?_)
        · exact pw_eqL (g_k (g_i rfl (g_k (g_i (iI_addE rfl rfl) (g_i rfl (g_i rfl (g_i rfl (g_i rfl (g_i rfl g_0))))))))) H
        · exact pw_eqL (g_k (g_i rfl (g_k (g_i rfl (g_i rfl (g_i (iI_addE rfl rfl) (g_k (g_k (g_k g_0))))))))) H
    · exact pw_eqL (g_k (g_i rfl (g_k (g_i rfl (g_i rfl (g_i (iI_addE rfl rfl) (g_k (g_k (g_k g_0))))))))) H
theorem t_X2_passages_71 {E : pw_E} {d : Nat} {w0 : pw_W} {m : Nat} {S : tw_S} {Post : pw_R → pw_W → Prop} (hm : pw_base E ≤ m) (v1 : Int) (v2 : Bool) (v3 : Int) (v4 : Int) (v5 : Int) (v6 : Int) (v7 : Int) (v8 : Int) (H : (rI v8 ∧ if v8 = (-1) then pw_Cl E m_X2_greater d [.int (iI v4), .int (iI v7)] (tw w0 m S) (c_i (t_i w0 m (fun z2 S1 => pw_Wp E m_X2_passages (d + 1) 8 [some (va_rf (some m)), some (.int (iI v1)), some (.int (bI v2)), some (.int (iI v3)), some (.int (iI z2)), some (.int (iI (v5 + 1))), none, none, none] [] (tw w0 m S1) Post))) else pw_Cl E m_X2_behindOf d [va_rf (some m), .int (iI v1), .int (iI v8), .int (iI v6)] (tw w0 m S) (c_i (t_i w0 m (fun z4 S3 => pw_Wp E m_X2_passages (d + 1) 71 [some (va_rf (some m)), some (.int (iI v1)), some (.int (bI v2)), some (.int (iI v3)), some (.int (iI v4)), some (.int (iI v5)), some (.int (iI v6)), some (.int (iI (v7 + 1))), some (.int (iI z4))] [] (tw w0 m S3) Post))))) : pw_Wp E m_X2_passages (d + 1) 71 [some (va_rf (some m)), some (.int (iI v1)), some (.int (bI v2)), some (.int (iI v3)), some (.int (iI v4)), some (.int (iI v5)), some (.int (iI v6)), some (.int (iI v7)), some (.int (iI v8))] [] (tw w0 m S) Post := by
  refine s_X2_passages_71 (some m) (iI v1) v2 (iI v3) (iI v4) (iI v5) (iI v6) (iI v7) (iI v8) ?_
  obtain ⟨h5, H⟩ := H
  refine f_eqE (s := v8) (t := (-1)) rfl rfl h5 (by constructor <;> decide) H (fun H => ?_) (fun H => ?_)
  · refine pw_avE (l_i rfl (l_i rfl l_0)) (H.mono (t_iE (fun z2 S1 H => ?_)))
    exact pw_eqL (g_k (g_i rfl (g_k (g_i rfl (g_i rfl (g_i (iI_addE rfl rfl) (g_k (g_k (g_k g_0))))))))) H
  · refine tw_V ?_
    refine pw_avE (l_k (l_i rfl (l_i rfl (l_i rfl l_0)))) (H.mono (t_iE (fun z4 S3 H => ?_)))
    exact pw_eqL (g_k (g_i rfl (g_k (g_i rfl (g_i rfl (g_i rfl (g_i rfl (g_i (iI_addE rfl rfl) (g_i rfl g_0))))))))) H
theorem t_X2_placeOf_0 {E : pw_E} {d : Nat} {w0 : pw_W} {m : Nat} {S : tw_S} {Post : pw_R → pw_W → Prop} (hm : pw_base E ≤ m) (v1 : Int) (v2 : Int) (v3 : Int) (H : pw_Wp E m_X2_placeOf (d + 1) 6 [some (va_rf (some m)), some (.int (iI v1)), some (.int (iI v2)), some (.int (iI v3)), some (.int (iI (-1))), some (.int (iI 0))] [] (tw w0 m S) Post) : pw_Wp E m_X2_placeOf (d + 1) 0 [some (va_rf (some m)), some (.int (iI v1)), some (.int (iI v2)), some (.int (iI v3)), none, none] [] (tw w0 m S) Post := by
  refine s_X2_placeOf_0 (some m) (iI v1) (iI v2) (iI v3) ?_
  exact pw_eqL (g_k (g_i rfl (g_i rfl (g_i rfl (g_i rfl (g_i rfl g_0)))))) H
theorem t_X2_placeOf_6 {E : pw_E} {d : Nat} {w0 : pw_W} {m : Nat} {S : tw_S} {Post : pw_R → pw_W → Prop} (hm : pw_base E ≤ m) (v1 : Int) (v2 : Int) (v3 : Int) (v4 : Int) (v5 : Int) (H : pw_Cl E m_X2_longOf d [va_rf (some m), .int (iI v1), .int (iI v2)] (tw w0 m S) (c_i (t_i w0 m (fun z2 S1 => (rI z2 ∧ rI v5 ∧ if z2 ≤ v5 then Post (.inl (some (.int (iI v4)))) (tw w0 m S1) else pw_Cl E m_X2_tokenAt d [va_rf (some m), .int (iI v1), .int (iI v2), .int (iI v5)] (tw w0 m S1) (c_i (t_i w0 m (fun z4 S3 => (rI z4 ∧ rI v3 ∧ if z4 = v3 then pw_Wp E m_X2_placeOf (d + 1) 6 [some (va_rf (some m)), some (.int (iI v1)), some (.int (iI v2)), some (.int (iI v3)), some (.int (iI v5)), some (.int (iI (v5 + 1)))] [] (tw w0 m S3) Post else pw_Wp E m_X2_placeOf (d + 1) 6 [some (va_rf (some m)), some (.int (iI v1)), some (.int (iI v2)), some (.int (iI v3)), some (.int (iI v4)), some (.int (iI (v5 + 1)))] [] (tw w0 m S3) Post))))))))) : pw_Wp E m_X2_placeOf (d + 1) 6 [some (va_rf (some m)), some (.int (iI v1)), some (.int (iI v2)), some (.int (iI v3)), some (.int (iI v4)), some (.int (iI v5))] [] (tw w0 m S) Post := by
  refine s_X2_placeOf_6 (some m) (iI v1) (iI v2) (iI v3) (iI v4) (iI v5) ?_
  refine tw_V ?_
  refine pw_avE (l_k (l_i rfl (l_i rfl l_0))) (H.mono (t_iE (fun z2 S1 H => ?_)))
  obtain ⟨h7, H⟩ := H
  obtain ⟨h8, H⟩ := H
  refine f_leE (s := z2) (t := v5) rfl rfl h7 h8 H (fun H => ?_) (fun H => ?_)
  · exact c_pi rfl H
  · refine tw_V ?_
    refine pw_avE (l_k (l_i rfl (l_i rfl (l_i rfl l_0)))) (H.mono (t_iE (fun z4 S3 H => ?_)))
    obtain ⟨h5, H⟩ := H
    obtain ⟨h6, H⟩ := H
    refine f_eqE (s := z4) (t := v3) rfl rfl h5 h6 H (fun H => ?_) (fun H => ?_)
    · exact pw_eqL (g_k (g_i rfl (g_i rfl (g_i rfl (g_i rfl (g_i (iI_addE rfl rfl) g_0)))))) H
    · exact pw_eqL (g_k (g_i rfl (g_i rfl (g_i rfl (g_i rfl (g_i (iI_addE rfl rfl) g_0)))))) H
theorem t_X2_postings_0 {E : pw_E} {d : Nat} {w0 : pw_W} {m : Nat} {S : tw_S} {Post : pw_R → pw_W → Prop} (hm : pw_base E ≤ m)  (H : pw_Wp E m_X2_postings (d + 1) 4 [some (va_rf (some m)), some (.int (iI 0)), some (.int (iI 0))] [] (tw w0 m S) Post) : pw_Wp E m_X2_postings (d + 1) 0 [some (va_rf (some m)), none, none] [] (tw w0 m S) Post := by
  refine s_X2_postings_0 (some m) ?_
  exact pw_eqL (g_k (g_i rfl (g_i rfl g_0))) H
theorem t_X2_postings_4 {E : pw_E} {d : Nat} {w0 : pw_W} {m : Nat} {S : tw_S} {Post : pw_R → pw_W → Prop} (hm : pw_base E ≤ m) (v1 : Int) (v2 : Int) (H : (rI (S.1 24) ∧ rI v2 ∧ if (S.1 24) ≤ v2 then Post (.inl (some (.int (iI v1)))) (tw w0 m S) else pw_Cl E m_X2_whereIs d [va_rf (some m), .int (iI v2)] (tw w0 m S) (c_i (t_i w0 m (fun z2 S1 => pw_Cl E m_X2_rowsIn d [.int (iI z2)] (tw w0 m S1) (c_i (t_i w0 m (fun z4 S3 => pw_Wp E m_X2_postings (d + 1) 4 [some (va_rf (some m)), some (.int (iI (v1 + z4))), some (.int (iI (v2 + 1)))] [] (tw w0 m S3) Post)))))))) : pw_Wp E m_X2_postings (d + 1) 4 [some (va_rf (some m)), some (.int (iI v1)), some (.int (iI v2))] [] (tw w0 m S) Post := by
  refine s_X2_postings_4 (some m) (iI v1) (iI v2) ?_
  refine tw_geti rfl ?_
  obtain ⟨h5, H⟩ := H
  obtain ⟨h6, H⟩ := H
  refine f_leE (s := (S.1 24)) (t := v2) rfl rfl h5 h6 H (fun H => ?_) (fun H => ?_)
  · exact c_pi rfl H
  · refine tw_V ?_
    refine pw_avE (l_k (l_i rfl l_0)) (H.mono (t_iE (fun z2 S1 H => ?_)))
    refine pw_avE (l_i rfl l_0) (H.mono (t_iE (fun z4 S3 H => ?_)))
    exact pw_eqL (g_k (g_i (iI_addE rfl rfl) (g_i (iI_addE rfl rfl) g_0))) H
theorem t_X2_question_0 {E : pw_E} {d : Nat} {w0 : pw_W} {m : Nat} {S : tw_S} {Post : pw_R → pw_W → Prop} (hm : pw_base E ≤ m) (v1 : Int) (v2 : Int) (v3 : Int) (H : pw_Cl E m_X2_hasAsking d [va_rf (some m), .int (iI v1)] (tw w0 m (tw_sf S 0 0)) (c_z (t_b w0 m (fun b2 S1 => (if b2 = true then (rI v2 ∧ if v2 = (-1) then (rI v3 ∧ if v3 = 0 then pw_Cl E m_X2_askedMany d [va_rf (some m)] (tw w0 m S1) (c_i (t_i w0 m (fun z4 S3 => Post (.inl (some (.int (iI z4)))) (tw w0 m S3)))) else Post (.inl (some (.int (iI (-2))))) (tw w0 m S1)) else pw_Cl E m_X2_askedMany d [va_rf (some m)] (tw w0 m S1) (c_i (t_i w0 m (fun z7 S6 => pw_Cl E m_X2_in d [.int (iI v2), .int (iI 0), .int (iI (z7 - 1))] (tw w0 m S6) (c_z (t_b w0 m (fun b9 S8 => (if b9 = true then (rI v3 ∧ if v3 < 10 then pw_Cl E m_X2_in d [.int (iI v3), .int (iI 0), .int (iI 2)] (tw w0 m S8) (c_z (t_b w0 m (fun b11 S10 => (if b11 = true then pw_Cl E m_X2_ofAsking d [va_rf (some m), .int (iI v2), .int (iI v3)] (tw w0 m S10) (c_i (t_i w0 m (fun z13 S12 => Post (.inl (some (.int (iI z13)))) (tw w0 m S12)))) else Post (.inl (some (.int (iI (-2))))) (tw w0 m S10))))) else pw_Cl E m_X2_wordsOf d [va_rf (some m), .int (iI v2)] (tw w0 m S8) (c_i (t_i w0 m (fun z15 S14 => (rI z15 ∧ rI (v3 - 10) ∧ if z15 ≤ (v3 - 10) then Post (.inl (some (.int (iI (-2))))) (tw w0 m S14) else pw_Cl E m_X2_ofAsking d [va_rf (some m), .int (iI v2), .int (iI ((3 + v3) - 10))] (tw w0 m S14) (c_i (t_i w0 m (fun z17 S16 => Post (.inl (some (.int (iI z17)))) (tw w0 m S16))))))))) else Post (.inl (some (.int (iI (-2))))) (tw w0 m S8))))))))) else Post (.inl (some (.int (iI (-2))))) (tw w0 m S1)))))) : pw_Wp E m_X2_question (d + 1) 0 [some (va_rf (some m)), some (.int (iI v1)), some (.int (iI v2)), some (.int (iI v3))] [] (tw w0 m S) Post := by
  refine s_X2_question_0 (some m) (iI v1) (iI v2) (iI v3) ?_
  refine tw_puti (x := 0) hm rfl rfl ?_
  refine tw_V ?_
  refine pw_avE (l_k (l_i rfl l_0)) (H.mono (t_bE (fun b2 S1 H => ?_)))
  refine f_bE H (fun H => ?_) (fun H => ?_)
  · exact c_pi rfl H
  · obtain ⟨h21, H⟩ := H
    refine f_eqE (s := v2) (t := (-1)) rfl rfl h21 (by constructor <;> decide) H (fun H => ?_) (fun H => ?_)
    · obtain ⟨h5, H⟩ := H
      refine f_eqE (s := v3) (t := 0) rfl rfl h5 (by constructor <;> decide) H (fun H => ?_) (fun H => ?_)
      · refine tw_V ?_
        refine pw_avE (l_k l_0) (H.mono (t_iE (fun z4 S3 H => ?_)))
        exact c_pi rfl H
      · exact c_pi rfl H
    · refine tw_V ?_
      refine pw_avE (l_k l_0) (H.mono (t_iE (fun z7 S6 H => ?_)))
      refine pw_avE (l_i rfl (l_i rfl (l_i (iI_subE rfl rfl) l_0))) (H.mono (t_bE (fun b9 S8 H => ?_)))
      refine f_bE H (fun H => ?_) (fun H => ?_)
      · exact c_pi rfl H
      · obtain ⟨h20, H⟩ := H
        refine f_ltE (s := v3) (t := 10) rfl rfl h20 (by constructor <;> decide) H (fun H => ?_) (fun H => ?_)
        · refine pw_avE (l_i rfl (l_i rfl (l_i rfl l_0))) (H.mono (t_bE (fun b11 S10 H => ?_)))
          refine f_bE H (fun H => ?_) (fun H => ?_)
          · exact c_pi rfl H
          · refine tw_V ?_
            refine pw_avE (l_k (l_i rfl (l_i rfl l_0))) (H.mono (t_iE (fun z13 S12 H => ?_)))
            exact c_pi rfl H
        · refine tw_V ?_
          refine pw_avE (l_k (l_i rfl l_0)) (H.mono (t_iE (fun z15 S14 H => ?_)))
          obtain ⟨h18, H⟩ := H
          obtain ⟨h19, H⟩ := H
          refine f_leE (s := z15) (t := (v3 - 10)) rfl (iI_subE rfl rfl) h18 h19 H (fun H => ?_) (fun H => ?_)
          · exact c_pi rfl H
          · refine tw_V ?_
            refine pw_avE (l_k (l_i rfl (l_i (iI_subE (iI_addE rfl rfl) rfl) l_0))) (H.mono (t_iE (fun z17 S16 H => ?_)))
            exact c_pi rfl H
theorem t_X2_rank_0 {E : pw_E} {d : Nat} {w0 : pw_W} {m : Nat} {S : tw_S} {Post : pw_R → pw_W → Prop} (hm : pw_base E ≤ m) (v1 : Int) (v2 : Int) (H : pw_Wp E m_X2_rank (d + 1) 2 [some (va_rf (some m)), some (.int (iI v1)), some (.int (iI v2)), some (.int (iI 0)), none, none] [] (tw w0 m S) Post) : pw_Wp E m_X2_rank (d + 1) 0 [some (va_rf (some m)), some (.int (iI v1)), some (.int (iI v2)), none, none, none] [] (tw w0 m S) Post := by
  refine s_X2_rank_0 (some m) (iI v1) (iI v2) ?_
  exact pw_eqL (g_k (g_i rfl (g_i rfl (g_i rfl (g_k (g_k g_0)))))) H
theorem t_X2_rank_2 {E : pw_E} {d : Nat} {w0 : pw_W} {m : Nat} {S : tw_S} {Post : pw_R → pw_W → Prop} (hm : pw_base E ≤ m) (v1 : Int) (v2 : Int) (v3 : Int) (H : (rI (S.2.2 9 0) ∧ rI v3 ∧ if (S.2.2 9 0) ≤ v3 then Post (.inl (some (.int (iI (-1))))) (tw w0 m S) else pw_Wp E m_X2_rank (d + 1) 18 [some (va_rf (some m)), some (.int (iI v1)), some (.int (iI v2)), some (.int (iI v3)), some (.int (iI 0)), some (.int (iI 0))] [] (tw w0 m S) Post)) : pw_Wp E m_X2_rank (d + 1) 2 [some (va_rf (some m)), some (.int (iI v1)), some (.int (iI v2)), some (.int (iI v3)), none, none] [] (tw w0 m S) Post := by
  refine s_X2_rank_2 (some m) (iI v1) (iI v2) (iI v3) ?_
  refine tw_getr rfl ?_
  refine tw_aldi (k := 9) (t := 0) rfl rfl (by decide) (by decide) ?_
  obtain ⟨h3, H⟩ := H
  obtain ⟨h4, H⟩ := H
  refine f_leE (s := (S.2.2 9 0)) (t := v3) rfl rfl h3 h4 H (fun H => ?_) (fun H => ?_)
  · exact c_pi rfl H
  · exact pw_eqL (g_k (g_i rfl (g_i rfl (g_i rfl (g_i rfl (g_i rfl g_0)))))) H
theorem t_X2_rank_18 {E : pw_E} {d : Nat} {w0 : pw_W} {m : Nat} {S : tw_S} {Post : pw_R → pw_W → Prop} (hm : pw_base E ≤ m) (v1 : Int) (v2 : Int) (v3 : Int) (v4 : Int) (v5 : Int) (H : (rI (S.2.2 9 0) ∧ rI v5 ∧ if (S.2.2 9 0) ≤ v5 then (rI v4 ∧ rI v2 ∧ if v4 = v2 then Post (.inl (some (.int (iI v3)))) (tw w0 m S) else pw_Wp E m_X2_rank (d + 1) 2 [some (va_rf (some m)), some (.int (iI v1)), some (.int (iI v2)), some (.int (iI (v3 + 1))), none, none] [] (tw w0 m S) Post) else pw_Cl E m_X2_rankOf d [va_rf (some m), .int (iI v1), .int (iI v5)] (tw w0 m S) (c_i (t_i w0 m (fun z6 S5 => pw_Cl E m_X2_rankOf d [va_rf (some m), .int (iI v1), .int (iI v3)] (tw w0 m S5) (c_i (t_i w0 m (fun z8 S7 => (rI z8 ∧ rI z6 ∧ if z8 < z6 then pw_Wp E m_X2_rank (d + 1) 18 [some (va_rf (some m)), some (.int (iI v1)), some (.int (iI v2)), some (.int (iI v3)), some (.int (iI (v4 + 1))), some (.int (iI (v5 + 1)))] [] (tw w0 m S7) Post else pw_Cl E m_X2_rankOf d [va_rf (some m), .int (iI v1), .int (iI v5)] (tw w0 m S7) (c_i (t_i w0 m (fun z10 S9 => pw_Cl E m_X2_rankOf d [va_rf (some m), .int (iI v1), .int (iI v3)] (tw w0 m S9) (c_i (t_i w0 m (fun z12 S11 => (rI z10 ∧ rI z12 ∧ if z10 = z12 then (rI v3 ∧ rI v5 ∧ if v3 ≤ v5 then pw_Wp E m_X2_rank (d + 1) 18 [some (va_rf (some m)), some (.int (iI v1)), some (.int (iI v2)), some (.int (iI v3)), some (.int (iI (v4 + 0))), some (.int (iI (v5 + 1)))] [] (tw w0 m S11) Post else pw_Wp E m_X2_rank (d + 1) 18 [some (va_rf (some m)), some (.int (iI v1)), some (.int (iI v2)), some (.int (iI v3)), some (.int (iI (v4 + 1))), some (.int (iI (v5 + 1)))] [] (tw w0 m S11) Post) else pw_Wp E m_X2_rank (d + 1) 18 [some (va_rf (some m)), some (.int (iI v1)), some (.int (iI v2)), some (.int (iI v3)), some (.int (iI (v4 + 0))), some (.int (iI (v5 + 1)))] [] (tw w0 m S11) Post)))))))))))))))) : pw_Wp E m_X2_rank (d + 1) 18 [some (va_rf (some m)), some (.int (iI v1)), some (.int (iI v2)), some (.int (iI v3)), some (.int (iI v4)), some (.int (iI v5))] [] (tw w0 m S) Post := by
  refine s_X2_rank_18 (some m) (iI v1) (iI v2) (iI v3) (iI v4) (iI v5) ?_
  refine tw_getr rfl ?_
  refine tw_aldi (k := 9) (t := 0) rfl rfl (by decide) (by decide) ?_
  obtain ⟨h19, H⟩ := H
  obtain ⟨h20, H⟩ := H
  refine f_leE (s := (S.2.2 9 0)) (t := v5) rfl rfl h19 h20 H (fun H => ?_) (fun H => ?_)
  · obtain ⟨h3, H⟩ := H
    obtain ⟨h4, H⟩ := H
    refine f_eqE (s := v4) (t := v2) rfl rfl h3 h4 H (fun H => ?_) (fun H => ?_)
    · exact c_pi rfl H
    · exact pw_eqL (g_k (g_i rfl (g_i rfl (g_i (iI_addE rfl rfl) (g_k (g_k g_0)))))) H
  · refine tw_V ?_
    refine pw_avE (l_k (l_i rfl (l_i rfl l_0))) (H.mono (t_iE (fun z6 S5 H => ?_)))
    refine tw_V ?_
    refine pw_avE (l_k (l_i rfl (l_i rfl l_0))) (H.mono (t_iE (fun z8 S7 H => ?_)))
    obtain ⟨h17, H⟩ := H
    obtain ⟨h18, H⟩ := H
    refine f_ltE (s := z8) (t := z6) rfl rfl h17 h18 H (fun H => ?_) (fun H => ?_)
    · exact pw_eqL (g_k (g_i rfl (g_i rfl (g_i rfl (g_i (iI_addE rfl rfl) (g_i (iI_addE rfl rfl) g_0)))))) H
    · refine tw_V ?_
      refine pw_avE (l_k (l_i rfl (l_i rfl l_0))) (H.mono (t_iE (fun z10 S9 H => ?_)))
      refine tw_V ?_
      refine pw_avE (l_k (l_i rfl (l_i rfl l_0))) (H.mono (t_iE (fun z12 S11 H => ?_)))
      obtain ⟨h15, H⟩ := H
      obtain ⟨h16, H⟩ := H
      refine f_eqE (s := z10) (t := z12) rfl rfl h15 h16 H (fun H => ?_) (fun H => ?_)
      · obtain ⟨h13, H⟩ := H
        obtain ⟨h14, H⟩ := H
        refine f_leE (s := v3) (t := v5) rfl rfl h13 h14 H (fun H => ?_) (fun H => ?_)
        · exact pw_eqL (g_k (g_i rfl (g_i rfl (g_i rfl (g_i (iI_addE rfl rfl) (g_i (iI_addE rfl rfl) g_0)))))) H
        · exact pw_eqL (g_k (g_i rfl (g_i rfl (g_i rfl (g_i (iI_addE rfl rfl) (g_i (iI_addE rfl rfl) g_0)))))) H
      · exact pw_eqL (g_k (g_i rfl (g_i rfl (g_i rfl (g_i (iI_addE rfl rfl) (g_i (iI_addE rfl rfl) g_0)))))) H
theorem t_X2_rankOf_0 {E : pw_E} {d : Nat} {w0 : pw_W} {m : Nat} {S : tw_S} {Post : pw_R → pw_W → Prop} (hm : pw_base E ≤ m) (v1 : Int) (v2 : Int) (H : ((0 : Int) ≤ ((4 * v1) + v2) ∧ ((4 * v1) + v2) < 32 ∧ pw_Cl E m_X2_ones d [.int (iI (S.2.2 14 (Int.toNat ((4 * v1) + v2))))] (tw w0 m S) (c_i (t_i w0 m (fun z4 S3 => ((0 : Int) ≤ ((4 * v1) + v2) ∧ ((4 * v1) + v2) < 32 ∧ pw_Cl E m_X2_versions d [va_rf (some m), .int (iI v2)] (tw w0 m S3) (c_i (t_i w0 m (fun z8 S7 => pw_Cl E m_X2_has d [.int (iI (S3.2.2 14 (Int.toNat ((4 * v1) + v2)))), .int (iI (z8 - 1))] (tw w0 m S7) (c_z (t_b w0 m (fun b10 S9 => (if b10 = true then Post (.inl (some (.int (iI ((2 * z4) + 1))))) (tw w0 m S9) else Post (.inl (some (.int (iI ((2 * z4) + 0))))) (tw w0 m S9)))))))))))))) : pw_Wp E m_X2_rankOf (d + 1) 0 [some (va_rf (some m)), some (.int (iI v1)), some (.int (iI v2))] [] (tw w0 m S) Post := by
  refine s_X2_rankOf_0 (some m) (iI v1) (iI v2) ?_
  refine tw_getr rfl ?_
  obtain ⟨h1, h2, H⟩ := H
  refine tw_aldi (k := 14) (t := ((4 * v1) + v2)) rfl (iI_addE (iI_mulE rfl rfl) rfl) h1 h2 ?_
  refine pw_avE (l_i rfl l_0) (H.mono (t_iE (fun z4 S3 H => ?_)))
  refine tw_getr rfl ?_
  obtain ⟨h5, h6, H⟩ := H
  refine tw_aldi (k := 14) (t := ((4 * v1) + v2)) rfl (iI_addE (iI_mulE rfl rfl) rfl) h5 h6 ?_
  refine tw_V ?_
  refine pw_avE (l_k (l_i rfl l_0)) (H.mono (t_iE (fun z8 S7 H => ?_)))
  refine pw_avE (l_i rfl (l_i (iI_subE rfl rfl) l_0)) (H.mono (t_bE (fun b10 S9 H => ?_)))
  refine f_bE H (fun H => ?_) (fun H => ?_)
  · exact c_pi (iI_addE (iI_mulE rfl rfl) rfl) H
  · exact c_pi (iI_addE (iI_mulE rfl rfl) rfl) H
theorem t_X2_readAsking_0 {E : pw_E} {d : Nat} {w0 : pw_W} {m : Nat} {S : tw_S} {Post : pw_R → pw_W → Prop} (hm : pw_base E ≤ m) (v1 : Int) (v2 : Int) (H : (rI v1 ∧ if v1 = 0 then pw_Cl E m_X2_takeWord d [va_rf (some m)] (tw w0 m S) (c_z (t_b w0 m (fun b2 S1 => (if b2 = true then pw_Cl E m_X2_takeWords d [va_rf (some m), .int (iI 4)] (tw w0 m S1) (c_v (t_u w0 m (fun S3 => Post (.inl (some (.int (iI 1)))) (tw w0 m (tw_sa S3 10 1 (S3.1 21)))))) else Post (.inl (some (.int (iI 0)))) (tw w0 m S1))))) else (rI v1 ∧ if v1 = 1 then pw_Cl E m_X2_takeWord d [va_rf (some m)] (tw w0 m S) (c_z (t_b w0 m (fun b7 S6 => (if b7 = true then pw_Cl E m_X2_takeWord d [va_rf (some m)] (tw w0 m S6) (c_z (t_b w0 m (fun b9 S8 => (if b9 = true then pw_Cl E m_X2_take d [va_rf (some m), .int (iI 1), .int (iI 1), .int (iI 9)] (tw w0 m S8) (c_z (t_b w0 m (fun b11 S10 => (if b11 = true then Post (.inl (some (.int (iI 1)))) (tw w0 m S10) else Post (.inl (some (.int (iI 0)))) (tw w0 m S10))))) else Post (.inl (some (.int (iI 0)))) (tw w0 m S8))))) else Post (.inl (some (.int (iI 0)))) (tw w0 m S6))))) else (rI v1 ∧ if v1 = 2 then pw_Cl E m_X2_takeWord d [va_rf (some m)] (tw w0 m S) (c_z (t_b w0 m (fun b13 S12 => (if b13 = true then pw_Cl E m_X2_take d [va_rf (some m), .int (iI 1), .int (iI 1), .int (iI 9)] (tw w0 m S12) (c_z (t_b w0 m (fun b15 S14 => (if b15 = true then Post (.inl (some (.int (iI 1)))) (tw w0 m S14) else Post (.inl (some (.int (iI 0)))) (tw w0 m S14))))) else Post (.inl (some (.int (iI 0)))) (tw w0 m S12))))) else (rI v1 ∧ if v1 = 3 then pw_Cl E m_X2_take d [va_rf (some m), .int (iI 1), .int (iI 0), .int (iI (v2 - 1))] (tw w0 m S) (c_z (t_b w0 m (fun b17 S16 => Post (.inl (some (.int (bI b17)))) (tw w0 m S16)))) else (rI v1 ∧ if v1 = 4 then pw_Cl E m_X2_take d [va_rf (some m), .int (iI 1), .int (iI 0), .int (iI (v2 - 1))] (tw w0 m S) (c_z (t_b w0 m (fun b19 S18 => Post (.inl (some (.int (bI b19)))) (tw w0 m S18)))) else (rI v1 ∧ if v1 = 5 then pw_Cl E m_X2_take d [va_rf (some m), .int (iI 1), .int (iI 0), .int (iI (v2 - 1))] (tw w0 m S) (c_z (t_b w0 m (fun b21 S20 => Post (.inl (some (.int (bI b21)))) (tw w0 m S20)))) else (rI v1 ∧ if v1 = 6 then pw_Cl E m_X2_take d [va_rf (some m), .int (iI 1), .int (iI 0), .int (iI (v2 - 1))] (tw w0 m S) (c_z (t_b w0 m (fun b23 S22 => (if b23 = true then pw_Cl E m_X2_take d [va_rf (some m), .int (iI 2), .int (iI 0), .int (iI (v2 - 1))] (tw w0 m S22) (c_z (t_b w0 m (fun b25 S24 => (if b25 = true then Post (.inl (some (.int (iI 1)))) (tw w0 m S24) else Post (.inl (some (.int (iI 0)))) (tw w0 m S24))))) else Post (.inl (some (.int (iI 0)))) (tw w0 m S22))))) else (rI v1 ∧ if v1 = 7 then pw_Cl E m_X2_take d [va_rf (some m), .int (iI 1), .int (iI 0), .int (iI (v2 - 1))] (tw w0 m S) (c_z (t_b w0 m (fun b27 S26 => (if b27 = true then pw_Cl E m_X2_take d [va_rf (some m), .int (iI 2), .int (iI 0), .int (iI (v2 - 1))] (tw w0 m S26) (c_z (t_b w0 m (fun b29 S28 => (if b29 = true then Post (.inl (some (.int (iI 1)))) (tw w0 m S28) else Post (.inl (some (.int (iI 0)))) (tw w0 m S28))))) else Post (.inl (some (.int (iI 0)))) (tw w0 m S26))))) else pw_Cl E m_X2_take d [va_rf (some m), .int (iI 1), .int (iI 0), .int (iI (v2 - 1))] (tw w0 m S) (c_z (t_b w0 m (fun b31 S30 => Post (.inl (some (.int (bI b31)))) (tw w0 m S30))))))))))))) : pw_Wp E m_X2_readAsking (d + 1) 0 [some (va_rf (some m)), some (.int (iI v1)), some (.int (iI v2))] [] (tw w0 m S) Post := by
  refine s_X2_readAsking_0 (some m) (iI v1) (iI v2) ?_
  obtain ⟨h39, H⟩ := H
  refine f_eqE (s := v1) (t := 0) rfl rfl h39 (by constructor <;> decide) H (fun H => ?_) (fun H => ?_)
  · refine tw_V ?_
    refine pw_avE (l_k l_0) (H.mono (t_bE (fun b2 S1 H => ?_)))
    refine f_bE H (fun H => ?_) (fun H => ?_)
    · exact c_pi rfl H
    · refine tw_V ?_
      refine pw_avE (l_k (l_i rfl l_0)) (H.mono (t_uE (fun S3 H => ?_)))
      refine tw_getr rfl ?_
      refine tw_geti rfl ?_
      refine tw_asti (k := 10) (t := 1) (x := (S3.1 21)) hm rfl rfl (by decide) (by decide) rfl ?_
      exact c_pi rfl H
  · obtain ⟨h38, H⟩ := H
    refine f_eqE (s := v1) (t := 1) rfl rfl h38 (by constructor <;> decide) H (fun H => ?_) (fun H => ?_)
    · refine tw_V ?_
      refine pw_avE (l_k l_0) (H.mono (t_bE (fun b7 S6 H => ?_)))
      refine f_bE H (fun H => ?_) (fun H => ?_)
      · exact c_pi rfl H
      · refine tw_V ?_
        refine pw_avE (l_k l_0) (H.mono (t_bE (fun b9 S8 H => ?_)))
        refine f_bE H (fun H => ?_) (fun H => ?_)
        · exact c_pi rfl H
        · refine tw_V ?_
          refine pw_avE (l_k (l_i rfl (l_i rfl (l_i rfl l_0)))) (H.mono (t_bE (fun b11 S10 H => ?_)))
          refine f_bE H (fun H => ?_) (fun H => ?_)
          · exact c_pi rfl H
          · exact c_pi rfl H
    · obtain ⟨h37, H⟩ := H
      refine f_eqE (s := v1) (t := 2) rfl rfl h37 (by constructor <;> decide) H (fun H => ?_) (fun H => ?_)
      · refine tw_V ?_
        refine pw_avE (l_k l_0) (H.mono (t_bE (fun b13 S12 H => ?_)))
        refine f_bE H (fun H => ?_) (fun H => ?_)
        · exact c_pi rfl H
        · refine tw_V ?_
          refine pw_avE (l_k (l_i rfl (l_i rfl (l_i rfl l_0)))) (H.mono (t_bE (fun b15 S14 H => ?_)))
          refine f_bE H (fun H => ?_) (fun H => ?_)
          · exact c_pi rfl H
          · exact c_pi rfl H
      · obtain ⟨h36, H⟩ := H
        refine f_eqE (s := v1) (t := 3) rfl rfl h36 (by constructor <;> decide) H (fun H => ?_) (fun H => ?_)
        · refine tw_V ?_
          refine pw_avE (l_k (l_i rfl (l_i rfl (l_i (iI_subE rfl rfl) l_0)))) (H.mono (t_bE (fun b17 S16 H => ?_)))
          exact H
        · obtain ⟨h35, H⟩ := H
          refine f_eqE (s := v1) (t := 4) rfl rfl h35 (by constructor <;> decide) H (fun H => ?_) (fun H => ?_)
          · refine tw_V ?_
            refine pw_avE (l_k (l_i rfl (l_i rfl (l_i (iI_subE rfl rfl) l_0)))) (H.mono (t_bE (fun b19 S18 H => ?_)))
            exact H
          · obtain ⟨h34, H⟩ := H
            refine f_eqE (s := v1) (t := 5) rfl rfl h34 (by constructor <;> decide) H (fun H => ?_) (fun H => ?_)
            · refine tw_V ?_
              refine pw_avE (l_k (l_i rfl (l_i rfl (l_i (iI_subE rfl rfl) l_0)))) (H.mono (t_bE (fun b21 S20 H => ?_)))
              exact H
            · obtain ⟨h33, H⟩ := H
              refine f_eqE (s := v1) (t := 6) rfl rfl h33 (by constructor <;> decide) H (fun H => ?_) (fun H => ?_)
              · refine tw_V ?_
                refine pw_avE (l_k (l_i rfl (l_i rfl (l_i (iI_subE rfl rfl) l_0)))) (H.mono (t_bE (fun b23 S22 H => ?_)))
                refine f_bE H (fun H => ?_) (fun H => ?_)
                · exact c_pi rfl H
                · refine tw_V ?_
                  refine pw_avE (l_k (l_i rfl (l_i rfl (l_i (iI_subE rfl rfl) l_0)))) (H.mono (t_bE (fun b25 S24 H => ?_)))
                  refine f_bE H (fun H => ?_) (fun H => ?_)
                  · exact c_pi rfl H
                  · exact c_pi rfl H
              · obtain ⟨h32, H⟩ := H
                refine f_eqE (s := v1) (t := 7) rfl rfl h32 (by constructor <;> decide) H (fun H => ?_) (fun H => ?_)
                · refine tw_V ?_
                  refine pw_avE (l_k (l_i rfl (l_i rfl (l_i (iI_subE rfl rfl) l_0)))) (H.mono (t_bE (fun b27 S26 H => ?_)))
                  refine f_bE H (fun H => ?_) (fun H => ?_)
                  · exact c_pi rfl H
                  · refine tw_V ?_
                    refine pw_avE (l_k (l_i rfl (l_i rfl (l_i (iI_subE rfl rfl) l_0)))) (H.mono (t_bE (fun b29 S28 H => ?_)))
                    refine f_bE H (fun H => ?_) (fun H => ?_)
                    · exact c_pi rfl H
                    · exact c_pi rfl H
                · refine tw_V ?_
                  refine pw_avE (l_k (l_i rfl (l_i rfl (l_i (iI_subE rfl rfl) l_0)))) (H.mono (t_bE (fun b31 S30 H => ?_)))
                  exact H
theorem t_X2_readChange_0 {E : pw_E} {d : Nat} {w0 : pw_W} {m : Nat} {S : tw_S} {Post : pw_R → pw_W → Prop} (hm : pw_base E ≤ m) (v1 : Int) (H : pw_Cl E m_X2_take d [va_rf (some m), .int (iI 0), .int (iI 0), .int (iI 3)] (tw w0 m S) (c_z (t_b w0 m (fun b2 S1 => (if b2 = true then (rI v1 ∧ if v1 = 0 then pw_Cl E m_X2_readPut d [va_rf (some m)] (tw w0 m S1) (c_z (t_b w0 m (fun b4 S3 => Post (.inl (some (.int (bI b4)))) (tw w0 m S3)))) else (rI v1 ∧ if v1 = 1 then pw_Cl E m_X2_take d [va_rf (some m), .int (iI 1), .int (iI 0), .int (iI 19)] (tw w0 m S1) (c_z (t_b w0 m (fun b6 S5 => (if b6 = true then pw_Cl E m_X2_take d [va_rf (some m), .int (iI 2), .int (iI 1), .int (iI 20)] (tw w0 m S5) (c_z (t_b w0 m (fun b8 S7 => (if b8 = true then Post (.inl (some (.int (iI 1)))) (tw w0 m S7) else Post (.inl (some (.int (iI 0)))) (tw w0 m S7))))) else Post (.inl (some (.int (iI 0)))) (tw w0 m S5))))) else (rI v1 ∧ if v1 = 2 then pw_Cl E m_X2_take d [va_rf (some m), .int (iI 1), .int (iI 0), .int (iI 19)] (tw w0 m S1) (c_z (t_b w0 m (fun b10 S9 => (if b10 = true then pw_Cl E m_X2_take d [va_rf (some m), .int (iI 2), .int (iI 0), .int (iI 19)] (tw w0 m S9) (c_z (t_b w0 m (fun b12 S11 => (if b12 = true then Post (.inl (some (.int (iI 1)))) (tw w0 m S11) else Post (.inl (some (.int (iI 0)))) (tw w0 m S11))))) else Post (.inl (some (.int (iI 0)))) (tw w0 m S9))))) else pw_Cl E m_X2_take d [va_rf (some m), .int (iI 1), .int (iI 0), .int (iI 9)] (tw w0 m S1) (c_z (t_b w0 m (fun b14 S13 => Post (.inl (some (.int (bI b14)))) (tw w0 m S13))))))) else Post (.inl (some (.int (iI 0)))) (tw w0 m S1)))))) : pw_Wp E m_X2_readChange (d + 1) 0 [some (va_rf (some m)), some (.int (iI v1))] [] (tw w0 m S) Post := by
  refine s_X2_readChange_0 (some m) (iI v1) ?_
  refine tw_V ?_
  refine pw_avE (l_k (l_i rfl (l_i rfl (l_i rfl l_0)))) (H.mono (t_bE (fun b2 S1 H => ?_)))
  refine f_bE H (fun H => ?_) (fun H => ?_)
  · exact c_pi rfl H
  · obtain ⟨h17, H⟩ := H
    refine f_eqE (s := v1) (t := 0) rfl rfl h17 (by constructor <;> decide) H (fun H => ?_) (fun H => ?_)
    · refine tw_V ?_
      refine pw_avE (l_k l_0) (H.mono (t_bE (fun b4 S3 H => ?_)))
      exact H
    · obtain ⟨h16, H⟩ := H
      refine f_eqE (s := v1) (t := 1) rfl rfl h16 (by constructor <;> decide) H (fun H => ?_) (fun H => ?_)
      · refine tw_V ?_
        refine pw_avE (l_k (l_i rfl (l_i rfl (l_i rfl l_0)))) (H.mono (t_bE (fun b6 S5 H => ?_)))
        refine f_bE H (fun H => ?_) (fun H => ?_)
        · exact c_pi rfl H
        · refine tw_V ?_
          refine pw_avE (l_k (l_i rfl (l_i rfl (l_i rfl l_0)))) (H.mono (t_bE (fun b8 S7 H => ?_)))
          refine f_bE H (fun H => ?_) (fun H => ?_)
          · exact c_pi rfl H
          · exact c_pi rfl H
      · obtain ⟨h15, H⟩ := H
        refine f_eqE (s := v1) (t := 2) rfl rfl h15 (by constructor <;> decide) H (fun H => ?_) (fun H => ?_)
        · refine tw_V ?_
          refine pw_avE (l_k (l_i rfl (l_i rfl (l_i rfl l_0)))) (H.mono (t_bE (fun b10 S9 H => ?_)))
          refine f_bE H (fun H => ?_) (fun H => ?_)
          · exact c_pi rfl H
          · refine tw_V ?_
            refine pw_avE (l_k (l_i rfl (l_i rfl (l_i rfl l_0)))) (H.mono (t_bE (fun b12 S11 H => ?_)))
            refine f_bE H (fun H => ?_) (fun H => ?_)
            · exact c_pi rfl H
            · exact c_pi rfl H
        · refine tw_V ?_
          refine pw_avE (l_k (l_i rfl (l_i rfl (l_i rfl l_0)))) (H.mono (t_bE (fun b14 S13 H => ?_)))
          exact H
theorem t_X2_readPut_0 {E : pw_E} {d : Nat} {w0 : pw_W} {m : Nat} {S : tw_S} {Post : pw_R → pw_W → Prop} (hm : pw_base E ≤ m)  (H : pw_Cl E m_X2_take d [va_rf (some m), .int (iI 1), .int (iI 0), .int (iI 20)] (tw w0 m S) (c_z (t_b w0 m (fun b2 S1 => (if b2 = true then (rI (S1.1 22) ∧ if (S1.1 22) = 0 then pw_Cl E m_X2_takeWords d [va_rf (some m), .int (iI (20 - 0))] (tw w0 m S1) (c_v (t_u w0 m (fun S3 => Post (.inl (some (.int (iI 1)))) (tw w0 m S3)))) else (rI (S1.2.2 9 0) ∧ rI (S1.2.2 10 0) ∧ if (S1.2.2 9 0) ≤ (S1.2.2 10 0) then pw_Cl E m_X2_takeWords d [va_rf (some m), .int (iI (20 - 0))] (tw w0 m S1) (c_v (t_u w0 m (fun S8 => Post (.inl (some (.int (iI 1)))) (tw w0 m S8)))) else pw_Cl E m_X2_latest d [va_rf (some m), .int (iI (S1.2.2 10 0))] (tw w0 m S1) (c_i (t_i w0 m (fun z12 S11 => ((0 : Int) ≤ (46 + z12) ∧ (46 + z12) < 1526 ∧ pw_Cl E m_X2_takeWords d [va_rf (some m), .int (iI (20 - (S11.2.2 9 (Int.toNat (46 + z12)))))] (tw w0 m S11) (c_v (t_u w0 m (fun S15 => Post (.inl (some (.int (iI 1)))) (tw w0 m S15)))))))))) else Post (.inl (some (.int (iI 0)))) (tw w0 m S1)))))) : pw_Wp E m_X2_readPut (d + 1) 0 [some (va_rf (some m)), none] [] (tw w0 m S) Post := by
  refine s_X2_readPut_0 (some m) ?_
  refine tw_V ?_
  refine pw_avE (l_k (l_i rfl (l_i rfl (l_i rfl l_0)))) (H.mono (t_bE (fun b2 S1 H => ?_)))
  refine f_bE H (fun H => ?_) (fun H => ?_)
  · exact c_pi rfl H
  · refine tw_geti rfl ?_
    obtain ⟨h18, H⟩ := H
    refine f_eqE (s := (S1.1 22)) (t := 0) rfl rfl h18 (by constructor <;> decide) H (fun H => ?_) (fun H => ?_)
    · refine tw_V ?_
      refine pw_avE (l_k (l_i (iI_subE rfl rfl) l_0)) (H.mono (t_uE (fun S3 H => ?_)))
      exact c_pi rfl H
    · refine tw_getr rfl ?_
      refine tw_aldi (k := 10) (t := 0) rfl rfl (by decide) (by decide) ?_
      refine tw_getr rfl ?_
      refine tw_aldi (k := 9) (t := 0) rfl rfl (by decide) (by decide) ?_
      obtain ⟨h16, H⟩ := H
      obtain ⟨h17, H⟩ := H
      refine f_leE (s := (S1.2.2 9 0)) (t := (S1.2.2 10 0)) rfl rfl h16 h17 H (fun H => ?_) (fun H => ?_)
      · refine tw_V ?_
        refine pw_avE (l_k (l_i (iI_subE rfl rfl) l_0)) (H.mono (t_uE (fun S8 H => ?_)))
        exact c_pi rfl H
      · refine tw_getr rfl ?_
        refine tw_getr rfl ?_
        refine tw_aldi (k := 10) (t := 0) rfl rfl (by decide) (by decide) ?_
        refine tw_V ?_
        refine pw_avE (l_k (l_i rfl l_0)) (H.mono (t_iE (fun z12 S11 H => ?_)))
        obtain ⟨h13, h14, H⟩ := H
        refine tw_aldi (k := 9) (t := (46 + z12)) rfl (iI_addE rfl rfl) h13 h14 ?_
        refine tw_V ?_
        refine pw_avE (l_k (l_i (iI_subE rfl rfl) l_0)) (H.mono (t_uE (fun S15 H => ?_)))
        exact c_pi rfl H
theorem t_X2_readText_0 {E : pw_E} {d : Nat} {w0 : pw_W} {m : Nat} {S : tw_S} {Post : pw_R → pw_W → Prop} (hm : pw_base E ≤ m) (v1 : Int) (H : pw_Wp E m_X2_readText (d + 1) 2 [some (va_rf (some m)), some (.int (iI v1)), some (.int (iI 0))] [] (tw w0 m S) Post) : pw_Wp E m_X2_readText (d + 1) 0 [some (va_rf (some m)), some (.int (iI v1)), none] [] (tw w0 m S) Post := by
  refine s_X2_readText_0 (some m) (iI v1) ?_
  exact pw_eqL (g_k (g_i rfl (g_i rfl g_0))) H
theorem t_X2_readText_2 {E : pw_E} {d : Nat} {w0 : pw_W} {m : Nat} {S : tw_S} {Post : pw_R → pw_W → Prop} (hm : pw_base E ≤ m) (v1 : Int) (v2 : Int) (H : (rI v2 ∧ if (1526 : Int) ≤ v2 then pw_Cl E m_X2_token d [va_rf (some m)] (tw w0 m (tw_sf (tw_sf S 9 0) 16 0)) (c_v (t_u w0 m (fun S1 => pw_Cl E m_X2_allLines d [va_rf (some m), .int (iI v1)] (tw w0 m S1) (c_z (t_b w0 m (fun b3 S2 => (if b3 = true then (if b3 = true then (rI (S2.1 16) ∧ if (S2.1 16) ≤ 0 then (rI (S2.1 16) ∧ if (S2.1 16) = 0 then Post (.inl (some (.int (iI 1)))) (tw w0 m (tw_sa (tw_sa S2 3 0 (S2.1 16)) 4 0 (-1))) else Post (.inl (some (.int (iI 0)))) (tw w0 m (tw_sa (tw_sa S2 3 0 (S2.1 16)) 4 0 (-1)))) else (rI (S2.1 16) ∧ if (S2.1 16) = 0 then Post (.inl (some (.int (iI 1)))) (tw w0 m (tw_sa (tw_sa S2 3 0 (S2.1 16)) 4 0 (S2.1 17))) else Post (.inl (some (.int (iI 0)))) (tw w0 m (tw_sa (tw_sa S2 3 0 (S2.1 16)) 4 0 (S2.1 17))))) else (rI (S2.1 16) ∧ if (S2.1 16) = 0 then Post (.inl (some (.int (iI 1)))) (tw w0 m (tw_sa (tw_sa S2 3 0 (S2.1 16)) 4 0 (S2.1 15))) else Post (.inl (some (.int (iI 0)))) (tw w0 m (tw_sa (tw_sa S2 3 0 (S2.1 16)) 4 0 (S2.1 15))))) else (if b3 = true then (rI (S2.1 16) ∧ if (S2.1 16) ≤ 0 then (if (1 : Int) = 0 then Post (.inl (some (.int (iI 1)))) (tw w0 m (tw_sa (tw_sa S2 3 0 1) 4 0 (-1))) else Post (.inl (some (.int (iI 0)))) (tw w0 m (tw_sa (tw_sa S2 3 0 1) 4 0 (-1)))) else (if (1 : Int) = 0 then Post (.inl (some (.int (iI 1)))) (tw w0 m (tw_sa (tw_sa S2 3 0 1) 4 0 (S2.1 17))) else Post (.inl (some (.int (iI 0)))) (tw w0 m (tw_sa (tw_sa S2 3 0 1) 4 0 (S2.1 17))))) else (if (1 : Int) = 0 then Post (.inl (some (.int (iI 1)))) (tw w0 m (tw_sa (tw_sa S2 3 0 1) 4 0 (S2.1 15))) else Post (.inl (some (.int (iI 0)))) (tw w0 m (tw_sa (tw_sa S2 3 0 1) 4 0 (S2.1 15)))))))))))) else ((0 : Int) ≤ v2 ∧ v2 < 1526 ∧ pw_Wp E m_X2_readText (d + 1) 2 [some (va_rf (some m)), some (.int (iI v1)), some (.int (iI (v2 + 1)))] [] (tw w0 m (tw_sa S 9 (Int.toNat v2) 0)) Post))) : pw_Wp E m_X2_readText (d + 1) 2 [some (va_rf (some m)), some (.int (iI v1)), some (.int (iI v2))] [] (tw w0 m S) Post := by
  refine s_X2_readText_2 (some m) (iI v1) (iI v2) ?_
  obtain ⟨h39, H⟩ := H
  refine f_leE (s := 1526) (t := v2) rfl rfl (by constructor <;> decide) h39 H (fun H => ?_) (fun H => ?_)
  · refine tw_puti (x := 0) hm rfl rfl ?_
    refine tw_puti (x := 0) hm rfl rfl ?_
    refine tw_V ?_
    refine pw_avE (l_k l_0) (H.mono (t_uE (fun S1 H => ?_)))
    refine tw_V ?_
    refine pw_avE (l_k (l_i rfl l_0)) (H.mono (t_bE (fun b3 S2 H => ?_)))
    refine tw_getr rfl ?_
    refine f_bE H (fun H => ?_) (fun H => ?_)
    · refine tw_asti (k := 3) (t := 0) (x := 1) hm rfl rfl (by decide) (by decide) rfl ?_
      refine tw_getr rfl ?_
      refine f_bE H (fun H => ?_) (fun H => ?_)
      · refine tw_geti rfl ?_
        refine tw_asti (k := 4) (t := 0) (x := (S2.1 15)) hm rfl rfl (by decide) (by decide) rfl ?_
        refine tw_getr rfl ?_
        refine tw_aldi (k := 3) (t := 0) rfl rfl (by decide) (by decide) ?_
        refine f_eqE (s := 1) (t := 0) rfl rfl (by constructor <;> decide) (by constructor <;> decide) H (fun H => ?_) (fun H => ?_)
        · exact c_pi rfl H
        · exact c_pi rfl H
      · refine tw_geti rfl ?_
        obtain ⟨h18, H⟩ := H
        refine f_leE (s := (S2.1 16)) (t := 0) rfl rfl h18 (by constructor <;> decide) H (fun H => ?_) (fun H => ?_)
        · refine tw_asti (k := 4) (t := 0) (x := (-1)) hm rfl rfl (by decide) (by decide) rfl ?_
          refine tw_getr rfl ?_
          refine tw_aldi (k := 3) (t := 0) rfl rfl (by decide) (by decide) ?_
          refine f_eqE (s := 1) (t := 0) rfl rfl (by constructor <;> decide) (by constructor <;> decide) H (fun H => ?_) (fun H => ?_)
          · exact c_pi rfl H
          · exact c_pi rfl H
        · refine tw_geti rfl ?_
          refine tw_asti (k := 4) (t := 0) (x := (S2.1 17)) hm rfl rfl (by decide) (by decide) rfl ?_
          refine tw_getr rfl ?_
          refine tw_aldi (k := 3) (t := 0) rfl rfl (by decide) (by decide) ?_
          refine f_eqE (s := 1) (t := 0) rfl rfl (by constructor <;> decide) (by constructor <;> decide) H (fun H => ?_) (fun H => ?_)
          · exact c_pi rfl H
          · exact c_pi rfl H
    · refine tw_geti rfl ?_
      refine tw_asti (k := 3) (t := 0) (x := (S2.1 16)) hm rfl rfl (by decide) (by decide) rfl ?_
      refine tw_getr rfl ?_
      refine f_bE H (fun H => ?_) (fun H => ?_)
      · refine tw_geti rfl ?_
        refine tw_asti (k := 4) (t := 0) (x := (S2.1 15)) hm rfl rfl (by decide) (by decide) rfl ?_
        refine tw_getr rfl ?_
        refine tw_aldi (k := 3) (t := 0) rfl rfl (by decide) (by decide) ?_
        obtain ⟨h25, H⟩ := H
        refine f_eqE (s := (S2.1 16)) (t := 0) rfl rfl h25 (by constructor <;> decide) H (fun H => ?_) (fun H => ?_)
        · exact c_pi rfl H
        · exact c_pi rfl H
      · refine tw_geti rfl ?_
        obtain ⟨h36, H⟩ := H
        refine f_leE (s := (S2.1 16)) (t := 0) rfl rfl h36 (by constructor <;> decide) H (fun H => ?_) (fun H => ?_)
        · refine tw_asti (k := 4) (t := 0) (x := (-1)) hm rfl rfl (by decide) (by decide) rfl ?_
          refine tw_getr rfl ?_
          refine tw_aldi (k := 3) (t := 0) rfl rfl (by decide) (by decide) ?_
          obtain ⟨h30, H⟩ := H
          refine f_eqE (s := (S2.1 16)) (t := 0) rfl rfl h30 (by constructor <;> decide) H (fun H => ?_) (fun H => ?_)
          · exact c_pi rfl H
          · exact c_pi rfl H
        · refine tw_geti rfl ?_
          refine tw_asti (k := 4) (t := 0) (x := (S2.1 17)) hm rfl rfl (by decide) (by decide) rfl ?_
          refine tw_getr rfl ?_
          refine tw_aldi (k := 3) (t := 0) rfl rfl (by decide) (by decide) ?_
          obtain ⟨h35, H⟩ := H
          refine f_eqE (s := (S2.1 16)) (t := 0) rfl rfl h35 (by constructor <;> decide) H (fun H => ?_) (fun H => ?_)
          · exact c_pi rfl H
          · exact c_pi rfl H
  · refine tw_getr rfl ?_
    obtain ⟨h37, h38, H⟩ := H
    refine tw_asti (k := 9) (t := v2) (x := 0) hm rfl rfl h37 h38 rfl ?_
    exact pw_eqL (g_k (g_i rfl (g_i (iI_addE rfl rfl) g_0))) H
theorem t_X2_returns_0 {E : pw_E} {d : Nat} {w0 : pw_W} {m : Nat} {S : tw_S} {Post : pw_R → pw_W → Prop} (hm : pw_base E ≤ m) (v1 : Int) (H : pw_Wp E m_X2_returns (d + 1) 4 [some (va_rf (some m)), some (.int (iI v1)), some (.int (iI 0)), some (.int (iI 1)), none, none] [] (tw w0 m S) Post) : pw_Wp E m_X2_returns (d + 1) 0 [some (va_rf (some m)), some (.int (iI v1)), none, none, none, none] [] (tw w0 m S) Post := by
  refine s_X2_returns_0 (some m) (iI v1) ?_
  exact pw_eqL (g_k (g_i rfl (g_i rfl (g_i rfl (g_k (g_k g_0)))))) H
theorem t_X2_returns_4 {E : pw_E} {d : Nat} {w0 : pw_W} {m : Nat} {S : tw_S} {Post : pw_R → pw_W → Prop} (hm : pw_base E ≤ m) (v1 : Int) (v2 : Int) (v3 : Int) (H : pw_Cl E m_X2_versions d [va_rf (some m), .int (iI v1)] (tw w0 m S) (c_i (t_i w0 m (fun z2 S1 => (rI z2 ∧ rI v3 ∧ if z2 ≤ v3 then Post (.inl (some (.int (iI v2)))) (tw w0 m S1) else pw_Wp E m_X2_returns (d + 1) 19 [some (va_rf (some m)), some (.int (iI v1)), some (.int (iI v2)), some (.int (iI v3)), some (.int (iI 0)), some (.int (iI 0))] [] (tw w0 m S1) Post))))) : pw_Wp E m_X2_returns (d + 1) 4 [some (va_rf (some m)), some (.int (iI v1)), some (.int (iI v2)), some (.int (iI v3)), none, none] [] (tw w0 m S) Post := by
  refine s_X2_returns_4 (some m) (iI v1) (iI v2) (iI v3) ?_
  refine tw_V ?_
  refine pw_avE (l_k (l_i rfl l_0)) (H.mono (t_iE (fun z2 S1 H => ?_)))
  obtain ⟨h3, H⟩ := H
  obtain ⟨h4, H⟩ := H
  refine f_leE (s := z2) (t := v3) rfl rfl h3 h4 H (fun H => ?_) (fun H => ?_)
  · exact c_pi rfl H
  · exact pw_eqL (g_k (g_i rfl (g_i rfl (g_i rfl (g_i rfl (g_i rfl g_0)))))) H
theorem t_X2_returns_19 {E : pw_E} {d : Nat} {w0 : pw_W} {m : Nat} {S : tw_S} {Post : pw_R → pw_W → Prop} (hm : pw_base E ≤ m) (v1 : Int) (v2 : Int) (v3 : Int) (v4 : Int) (v5 : Int) (H : (rI v3 ∧ rI v5 ∧ if v3 ≤ v5 then (rI v4 ∧ if v4 = 0 then pw_Wp E m_X2_returns (d + 1) 4 [some (va_rf (some m)), some (.int (iI v1)), some (.int (iI (v2 + 0))), some (.int (iI (v3 + 1))), none, none] [] (tw w0 m S) Post else pw_Cl E m_X2_areAlike d [va_rf (some m), .int (iI v1), .int (iI v3), .int (iI v1), .int (iI (v3 - 1))] (tw w0 m S) (c_z (t_b w0 m (fun b2 S1 => (if b2 = true then pw_Wp E m_X2_returns (d + 1) 4 [some (va_rf (some m)), some (.int (iI v1)), some (.int (iI (v2 + 0))), some (.int (iI (v3 + 1))), none, none] [] (tw w0 m S1) Post else pw_Wp E m_X2_returns (d + 1) 4 [some (va_rf (some m)), some (.int (iI v1)), some (.int (iI (v2 + 1))), some (.int (iI (v3 + 1))), none, none] [] (tw w0 m S1) Post))))) else (rI v4 ∧ if v4 = 0 then pw_Cl E m_X2_areAlike d [va_rf (some m), .int (iI v1), .int (iI v3), .int (iI v1), .int (iI v5)] (tw w0 m S) (c_z (t_b w0 m (fun b5 S4 => (if b5 = true then pw_Wp E m_X2_returns (d + 1) 19 [some (va_rf (some m)), some (.int (iI v1)), some (.int (iI v2)), some (.int (iI v3)), some (.int (iI 1)), some (.int (iI (v5 + 1)))] [] (tw w0 m S4) Post else pw_Wp E m_X2_returns (d + 1) 19 [some (va_rf (some m)), some (.int (iI v1)), some (.int (iI v2)), some (.int (iI v3)), some (.int (iI 0)), some (.int (iI (v5 + 1)))] [] (tw w0 m S4) Post)))) else pw_Wp E m_X2_returns (d + 1) 19 [some (va_rf (some m)), some (.int (iI v1)), some (.int (iI v2)), some (.int (iI v3)), some (.int (iI 1)), some (.int (iI (v5 + 1)))] [] (tw w0 m S) Post))) : pw_Wp E m_X2_returns (d + 1) 19 [some (va_rf (some m)), some (.int (iI v1)), some (.int (iI v2)), some (.int (iI v3)), some (.int (iI v4)), some (.int (iI v5))] [] (tw w0 m S) Post := by
  refine s_X2_returns_19 (some m) (iI v1) (iI v2) (iI v3) (iI v4) (iI v5) ?_
  obtain ⟨h7, H⟩ := H
  obtain ⟨h8, H⟩ := H
  refine f_leE (s := v3) (t := v5) rfl rfl h7 h8 H (fun H => ?_) (fun H => ?_)
  · obtain ⟨h3, H⟩ := H
    refine f_eqE (s := v4) (t := 0) rfl rfl h3 (by constructor <;> decide) H (fun H => ?_) (fun H => ?_)
    · exact pw_eqL (g_k (g_i rfl (g_i (iI_addE rfl rfl) (g_i (iI_addE rfl rfl) (g_k (g_k g_0)))))) H
    · refine tw_V ?_
      refine pw_avE (l_k (l_i rfl (l_i rfl (l_i rfl (l_i (iI_subE rfl rfl) l_0))))) (H.mono (t_bE (fun b2 S1 H => ?_)))
      refine f_bE H (fun H => ?_) (fun H => ?_)
      · exact pw_eqL (g_k (g_i rfl (g_i (iI_addE rfl rfl) (g_i (iI_addE rfl rfl) (g_k (g_k g_0)))))) H
      · exact pw_eqL (g_k (g_i rfl (g_i (iI_addE rfl rfl) (g_i (iI_addE rfl rfl) (g_k (g_k g_0)))))) H
  · obtain ⟨h6, H⟩ := H
    refine f_eqE (s := v4) (t := 0) rfl rfl h6 (by constructor <;> decide) H (fun H => ?_) (fun H => ?_)
    · refine tw_V ?_
      refine pw_avE (l_k (l_i rfl (l_i rfl (l_i rfl (l_i rfl l_0))))) (H.mono (t_bE (fun b5 S4 H => ?_)))
      refine f_bE H (fun H => ?_) (fun H => ?_)
      · exact pw_eqL (g_k (g_i rfl (g_i rfl (g_i rfl (g_i rfl (g_i (iI_addE rfl rfl) g_0)))))) H
      · exact pw_eqL (g_k (g_i rfl (g_i rfl (g_i rfl (g_i rfl (g_i (iI_addE rfl rfl) g_0)))))) H
    · exact pw_eqL (g_k (g_i rfl (g_i rfl (g_i rfl (g_i rfl (g_i (iI_addE rfl rfl) g_0)))))) H
theorem t_X2_rowsIn_0 {E : pw_E} {d : Nat} {w0 : pw_W} {m : Nat} {S : tw_S} {Post : pw_R → pw_W → Prop} (hm : pw_base E ≤ m) (v0 : Int) (H : pw_Wp E m_X2_rowsIn (d + 1) 4 [some (.int (iI v0)), some (.int (iI 0)), some (.int (iI 0))] [] (tw w0 m S) Post) : pw_Wp E m_X2_rowsIn (d + 1) 0 [some (.int (iI v0)), none, none] [] (tw w0 m S) Post := by
  refine s_X2_rowsIn_0 (iI v0) ?_
  exact pw_eqL (g_i rfl (g_i rfl (g_i rfl g_0))) H
theorem t_X2_rowsIn_4 {E : pw_E} {d : Nat} {w0 : pw_W} {m : Nat} {S : tw_S} {Post : pw_R → pw_W → Prop} (hm : pw_base E ≤ m) (v0 : Int) (v1 : Int) (v2 : Int) (H : (rI v2 ∧ if (10 : Int) ≤ v2 then Post (.inl (some (.int (iI v1)))) (tw w0 m S) else pw_Cl E m_X2_has d [.int (iI v0), .int (iI v2)] (tw w0 m S) (c_z (t_b w0 m (fun b2 S1 => (if b2 = true then (rI v2 ∧ if v2 = 0 then pw_Wp E m_X2_rowsIn (d + 1) 4 [some (.int (iI v0)), some (.int (iI (v1 + 1))), some (.int (iI (v2 + 1)))] [] (tw w0 m S1) Post else pw_Cl E m_X2_has d [.int (iI v0), .int (iI (v2 - 1))] (tw w0 m S1) (c_z (t_b w0 m (fun b4 S3 => (if b4 = true then pw_Wp E m_X2_rowsIn (d + 1) 4 [some (.int (iI v0)), some (.int (iI (v1 + 0))), some (.int (iI (v2 + 1)))] [] (tw w0 m S3) Post else pw_Wp E m_X2_rowsIn (d + 1) 4 [some (.int (iI v0)), some (.int (iI (v1 + 1))), some (.int (iI (v2 + 1)))] [] (tw w0 m S3) Post))))) else pw_Wp E m_X2_rowsIn (d + 1) 4 [some (.int (iI v0)), some (.int (iI (v1 + 0))), some (.int (iI (v2 + 1)))] [] (tw w0 m S1) Post)))))) : pw_Wp E m_X2_rowsIn (d + 1) 4 [some (.int (iI v0)), some (.int (iI v1)), some (.int (iI v2))] [] (tw w0 m S) Post := by
  refine s_X2_rowsIn_4 (iI v0) (iI v1) (iI v2) ?_
  obtain ⟨h6, H⟩ := H
  refine f_leE (s := 10) (t := v2) rfl rfl (by constructor <;> decide) h6 H (fun H => ?_) (fun H => ?_)
  · exact c_pi rfl H
  · refine pw_avE (l_i rfl (l_i rfl l_0)) (H.mono (t_bE (fun b2 S1 H => ?_)))
    refine f_bE H (fun H => ?_) (fun H => ?_)
    · exact pw_eqL (g_i rfl (g_i (iI_addE rfl rfl) (g_i (iI_addE rfl rfl) g_0))) H
    · obtain ⟨h5, H⟩ := H
      refine f_eqE (s := v2) (t := 0) rfl rfl h5 (by constructor <;> decide) H (fun H => ?_) (fun H => ?_)
      · exact pw_eqL (g_i rfl (g_i (iI_addE rfl rfl) (g_i (iI_addE rfl rfl) g_0))) H
      · refine pw_avE (l_i rfl (l_i (iI_subE rfl rfl) l_0)) (H.mono (t_bE (fun b4 S3 H => ?_)))
        refine f_bE H (fun H => ?_) (fun H => ?_)
        · exact pw_eqL (g_i rfl (g_i (iI_addE rfl rfl) (g_i (iI_addE rfl rfl) g_0))) H
        · exact pw_eqL (g_i rfl (g_i (iI_addE rfl rfl) (g_i (iI_addE rfl rfl) g_0))) H
theorem t_X2_samePairs_0 {E : pw_E} {d : Nat} {w0 : pw_W} {m : Nat} {S : tw_S} {Post : pw_R → pw_W → Prop} (hm : pw_base E ≤ m)  (H : pw_Wp E m_X2_samePairs (d + 1) 4 [some (va_rf (some m)), some (.int (iI 0)), some (.int (iI 0)), none] [] (tw w0 m S) Post) : pw_Wp E m_X2_samePairs (d + 1) 0 [some (va_rf (some m)), none, none, none] [] (tw w0 m S) Post := by
  refine s_X2_samePairs_0 (some m) ?_
  exact pw_eqL (g_k (g_i rfl (g_i rfl (g_k g_0)))) H
theorem t_X2_samePairs_4 {E : pw_E} {d : Nat} {w0 : pw_W} {m : Nat} {S : tw_S} {Post : pw_R → pw_W → Prop} (hm : pw_base E ≤ m) (v1 : Int) (v2 : Int) (H : pw_Cl E m_X2_askedMany d [va_rf (some m)] (tw w0 m S) (c_i (t_i w0 m (fun z2 S1 => (rI z2 ∧ rI v2 ∧ if z2 ≤ v2 then Post (.inl (some (.int (iI v1)))) (tw w0 m S1) else pw_Wp E m_X2_samePairs (d + 1) 14 [some (va_rf (some m)), some (.int (iI v1)), some (.int (iI v2)), some (.int (iI 0))] [] (tw w0 m S1) Post))))) : pw_Wp E m_X2_samePairs (d + 1) 4 [some (va_rf (some m)), some (.int (iI v1)), some (.int (iI v2)), none] [] (tw w0 m S) Post := by
  refine s_X2_samePairs_4 (some m) (iI v1) (iI v2) ?_
  refine tw_V ?_
  refine pw_avE (l_k l_0) (H.mono (t_iE (fun z2 S1 H => ?_)))
  obtain ⟨h3, H⟩ := H
  obtain ⟨h4, H⟩ := H
  refine f_leE (s := z2) (t := v2) rfl rfl h3 h4 H (fun H => ?_) (fun H => ?_)
  · exact c_pi rfl H
  · exact pw_eqL (g_k (g_i rfl (g_i rfl (g_i rfl g_0)))) H
theorem t_X2_samePairs_14 {E : pw_E} {d : Nat} {w0 : pw_W} {m : Nat} {S : tw_S} {Post : pw_R → pw_W → Prop} (hm : pw_base E ≤ m) (v1 : Int) (v2 : Int) (v3 : Int) (H : (rI v2 ∧ rI v3 ∧ if v2 ≤ v3 then pw_Wp E m_X2_samePairs (d + 1) 4 [some (va_rf (some m)), some (.int (iI v1)), some (.int (iI (v2 + 1))), none] [] (tw w0 m S) Post else pw_Cl E m_X2_isWithin d [va_rf (some m), .int (iI v2), .int (iI v3)] (tw w0 m S) (c_z (t_b w0 m (fun b2 S1 => (if b2 = true then pw_Cl E m_X2_isWithin d [va_rf (some m), .int (iI v3), .int (iI v2)] (tw w0 m S1) (c_z (t_b w0 m (fun b4 S3 => (if b4 = true then pw_Wp E m_X2_samePairs (d + 1) 14 [some (va_rf (some m)), some (.int (iI (v1 + 1))), some (.int (iI v2)), some (.int (iI (v3 + 1)))] [] (tw w0 m S3) Post else pw_Wp E m_X2_samePairs (d + 1) 14 [some (va_rf (some m)), some (.int (iI (v1 + 0))), some (.int (iI v2)), some (.int (iI (v3 + 1)))] [] (tw w0 m S3) Post)))) else pw_Wp E m_X2_samePairs (d + 1) 14 [some (va_rf (some m)), some (.int (iI (v1 + 0))), some (.int (iI v2)), some (.int (iI (v3 + 1)))] [] (tw w0 m S1) Post)))))) : pw_Wp E m_X2_samePairs (d + 1) 14 [some (va_rf (some m)), some (.int (iI v1)), some (.int (iI v2)), some (.int (iI v3))] [] (tw w0 m S) Post := by
  refine s_X2_samePairs_14 (some m) (iI v1) (iI v2) (iI v3) ?_
  obtain ⟨h5, H⟩ := H
  obtain ⟨h6, H⟩ := H
  refine f_leE (s := v2) (t := v3) rfl rfl h5 h6 H (fun H => ?_) (fun H => ?_)
  · exact pw_eqL (g_k (g_i rfl (g_i (iI_addE rfl rfl) (g_k g_0)))) H
  · refine tw_V ?_
    refine pw_avE (l_k (l_i rfl (l_i rfl l_0))) (H.mono (t_bE (fun b2 S1 H => ?_)))
    refine f_bE H (fun H => ?_) (fun H => ?_)
    · exact pw_eqL (g_k (g_i (iI_addE rfl rfl) (g_i rfl (g_i (iI_addE rfl rfl) g_0)))) H
    · refine tw_V ?_
      refine pw_avE (l_k (l_i rfl (l_i rfl l_0))) (H.mono (t_bE (fun b4 S3 H => ?_)))
      refine f_bE H (fun H => ?_) (fun H => ?_)
      · exact pw_eqL (g_k (g_i (iI_addE rfl rfl) (g_i rfl (g_i (iI_addE rfl rfl) g_0)))) H
      · exact pw_eqL (g_k (g_i (iI_addE rfl rfl) (g_i rfl (g_i (iI_addE rfl rfl) g_0)))) H
theorem t_X2_see_0 {E : pw_E} {d : Nat} {w0 : pw_W} {m : Nat} {S : tw_S} {Post : pw_R → pw_W → Prop} (hm : pw_base E ≤ m)  (H : (rI (S.1 10) ∧ rI (S.1 9) ∧ if (S.1 10) ≤ (S.1 9) then Post (.inl (some (.int (iI (-1))))) (tw w0 m S) else ((0 : Int) ≤ (S.1 9) ∧ (S.1 9) < 2400 ∧ Post (.inl (some (.int (iI (Int32.toInt ((iI (S.2.2 1 (Int.toNat (S.1 9)))) &&& 255)))))) (tw w0 m S)))) : pw_Wp E m_X2_see (d + 1) 0 [some (va_rf (some m))] [] (tw w0 m S) Post := by
  refine s_X2_see_0 (some m) ?_
  refine tw_geti rfl ?_
  refine tw_geti rfl ?_
  obtain ⟨h3, H⟩ := H
  obtain ⟨h4, H⟩ := H
  refine f_leE (s := (S.1 10)) (t := (S.1 9)) rfl rfl h3 h4 H (fun H => ?_) (fun H => ?_)
  · exact c_pi rfl H
  · refine tw_getr rfl ?_
    refine tw_geti rfl ?_
    obtain ⟨h1, h2, H⟩ := H
    refine tw_aldb (t := (S.1 9)) rfl h1 h2 ?_
    exact c_pi (iI_oE _) H
theorem t_X2_shared_0 {E : pw_E} {d : Nat} {w0 : pw_W} {m : Nat} {S : tw_S} {Post : pw_R → pw_W → Prop} (hm : pw_base E ≤ m) (v1 : Int) (v2 : Int) (v3 : Int) (v4 : Int) (H : pw_Cl E m_X2_hand d [va_rf (some m), .int (iI v1)] (tw w0 m (tw_sf S 0 0)) (c_z (t_b w0 m (fun b2 S1 => (if b2 = true then pw_Cl E m_X2_isVersion d [va_rf (some m), .int (iI v2), .int (iI v3)] (tw w0 m S1) (c_z (t_b w0 m (fun b4 S3 => (if b4 = true then pw_Cl E m_X2_isVersion d [va_rf (some m), .int (iI v2), .int (iI v4)] (tw w0 m S3) (c_z (t_b w0 m (fun b6 S5 => (if b6 = true then pw_Wp E m_X2_shared (d + 1) 40 [some (va_rf (some m)), none, some (.int (iI v2)), some (.int (iI v3)), some (.int (iI v4)), some (.int (iI 0)), some (.int (iI 0))] [] (tw w0 m S5) Post else Post (.inl (some (.int (iI (-1))))) (tw w0 m S5))))) else Post (.inl (some (.int (iI (-1))))) (tw w0 m S3))))) else Post (.inl (some (.int (iI (-1))))) (tw w0 m S1)))))) : pw_Wp E m_X2_shared (d + 1) 0 [some (va_rf (some m)), some (.int (iI v1)), some (.int (iI v2)), some (.int (iI v3)), some (.int (iI v4)), none, none] [] (tw w0 m S) Post := by
  refine s_X2_shared_0 (some m) (iI v1) (iI v2) (iI v3) (iI v4) ?_
  refine tw_puti (x := 0) hm rfl rfl ?_
  refine tw_V ?_
  refine pw_avE (l_k (l_i rfl l_0)) (H.mono (t_bE (fun b2 S1 H => ?_)))
  refine f_bE H (fun H => ?_) (fun H => ?_)
  · exact c_pi rfl H
  · refine tw_V ?_
    refine pw_avE (l_k (l_i rfl (l_i rfl l_0))) (H.mono (t_bE (fun b4 S3 H => ?_)))
    refine f_bE H (fun H => ?_) (fun H => ?_)
    · exact c_pi rfl H
    · refine tw_V ?_
      refine pw_avE (l_k (l_i rfl (l_i rfl l_0))) (H.mono (t_bE (fun b6 S5 H => ?_)))
      refine f_bE H (fun H => ?_) (fun H => ?_)
      · exact c_pi rfl H
      · exact pw_eqL (g_k (g_k (g_i rfl (g_i rfl (g_i rfl (g_i rfl (g_i rfl g_0))))))) H
theorem t_X2_shared_40 {E : pw_E} {d : Nat} {w0 : pw_W} {m : Nat} {S : tw_S} {Post : pw_R → pw_W → Prop} (hm : pw_base E ≤ m) (v2 : Int) (v3 : Int) (v4 : Int) (v5 : Int) (v6 : Int) (H : pw_Cl E m_X2_longOf d [va_rf (some m), .int (iI v2), .int (iI v3)] (tw w0 m S) (c_i (t_i w0 m (fun z2 S1 => (rI z2 ∧ rI v6 ∧ if z2 ≤ v6 then Post (.inl (some (.int (iI v5)))) (tw w0 m S1) else pw_Cl E m_X2_tokenAt d [va_rf (some m), .int (iI v2), .int (iI v3), .int (iI v6)] (tw w0 m S1) (c_i (t_i w0 m (fun z4 S3 => pw_Cl E m_X2_placeOf d [va_rf (some m), .int (iI v2), .int (iI v4), .int (iI z4)] (tw w0 m S3) (c_i (t_i w0 m (fun z6 S5 => (rI z6 ∧ if z6 = (-1) then pw_Wp E m_X2_shared (d + 1) 40 [some (va_rf (some m)), none, some (.int (iI v2)), some (.int (iI v3)), some (.int (iI v4)), some (.int (iI (v5 + 0))), some (.int (iI (v6 + 1)))] [] (tw w0 m S5) Post else pw_Wp E m_X2_shared (d + 1) 40 [some (va_rf (some m)), none, some (.int (iI v2)), some (.int (iI v3)), some (.int (iI v4)), some (.int (iI (v5 + 1))), some (.int (iI (v6 + 1)))] [] (tw w0 m S5) Post)))))))))))) : pw_Wp E m_X2_shared (d + 1) 40 [some (va_rf (some m)), none, some (.int (iI v2)), some (.int (iI v3)), some (.int (iI v4)), some (.int (iI v5)), some (.int (iI v6))] [] (tw w0 m S) Post := by
  refine s_X2_shared_40 (some m) (iI v2) (iI v3) (iI v4) (iI v5) (iI v6) ?_
  refine tw_V ?_
  refine pw_avE (l_k (l_i rfl (l_i rfl l_0))) (H.mono (t_iE (fun z2 S1 H => ?_)))
  obtain ⟨h8, H⟩ := H
  obtain ⟨h9, H⟩ := H
  refine f_leE (s := z2) (t := v6) rfl rfl h8 h9 H (fun H => ?_) (fun H => ?_)
  · exact c_pi rfl H
  · refine tw_V ?_
    refine pw_avE (l_k (l_i rfl (l_i rfl (l_i rfl l_0)))) (H.mono (t_iE (fun z4 S3 H => ?_)))
    refine tw_V ?_
    refine pw_avE (l_k (l_i rfl (l_i rfl (l_i rfl l_0)))) (H.mono (t_iE (fun z6 S5 H => ?_)))
    obtain ⟨h7, H⟩ := H
    refine f_eqE (s := z6) (t := (-1)) rfl rfl h7 (by constructor <;> decide) H (fun H => ?_) (fun H => ?_)
    · exact pw_eqL (g_k (g_k (g_i rfl (g_i rfl (g_i rfl (g_i (iI_addE rfl rfl) (g_i (iI_addE rfl rfl) g_0))))))) H
    · exact pw_eqL (g_k (g_k (g_i rfl (g_i rfl (g_i rfl (g_i (iI_addE rfl rfl) (g_i (iI_addE rfl rfl) g_0))))))) H
theorem t_X2_sizeAll_0 {E : pw_E} {d : Nat} {w0 : pw_W} {m : Nat} {S : tw_S} {Post : pw_R → pw_W → Prop} (hm : pw_base E ≤ m)  (H : pw_Wp E m_X2_sizeAll (d + 1) 4 [some (va_rf (some m)), some (.int (iI 0)), some (.int (iI 0)), none] [] (tw w0 m S) Post) : pw_Wp E m_X2_sizeAll (d + 1) 0 [some (va_rf (some m)), none, none, none] [] (tw w0 m S) Post := by
  refine s_X2_sizeAll_0 (some m) ?_
  exact pw_eqL (g_k (g_i rfl (g_i rfl (g_k g_0)))) H
theorem t_X2_sizeAll_4 {E : pw_E} {d : Nat} {w0 : pw_W} {m : Nat} {S : tw_S} {Post : pw_R → pw_W → Prop} (hm : pw_base E ≤ m) (v1 : Int) (v2 : Int) (H : (rI (S.2.2 9 0) ∧ rI v2 ∧ if (S.2.2 9 0) ≤ v2 then Post (.inl (some (.int (iI v1)))) (tw w0 m S) else pw_Wp E m_X2_sizeAll (d + 1) 16 [some (va_rf (some m)), some (.int (iI v1)), some (.int (iI v2)), some (.int (iI 0))] [] (tw w0 m S) Post)) : pw_Wp E m_X2_sizeAll (d + 1) 4 [some (va_rf (some m)), some (.int (iI v1)), some (.int (iI v2)), none] [] (tw w0 m S) Post := by
  refine s_X2_sizeAll_4 (some m) (iI v1) (iI v2) ?_
  refine tw_getr rfl ?_
  refine tw_aldi (k := 9) (t := 0) rfl rfl (by decide) (by decide) ?_
  obtain ⟨h3, H⟩ := H
  obtain ⟨h4, H⟩ := H
  refine f_leE (s := (S.2.2 9 0)) (t := v2) rfl rfl h3 h4 H (fun H => ?_) (fun H => ?_)
  · exact c_pi rfl H
  · exact pw_eqL (g_k (g_i rfl (g_i rfl (g_i rfl g_0)))) H
theorem t_X2_sizeAll_16 {E : pw_E} {d : Nat} {w0 : pw_W} {m : Nat} {S : tw_S} {Post : pw_R → pw_W → Prop} (hm : pw_base E ≤ m) (v1 : Int) (v2 : Int) (v3 : Int) (H : pw_Cl E m_X2_versions d [va_rf (some m), .int (iI v2)] (tw w0 m S) (c_i (t_i w0 m (fun z2 S1 => (rI z2 ∧ rI v3 ∧ if z2 ≤ v3 then pw_Wp E m_X2_sizeAll (d + 1) 4 [some (va_rf (some m)), some (.int (iI v1)), some (.int (iI (v2 + 1))), none] [] (tw w0 m S1) Post else pw_Cl E m_X2_longOf d [va_rf (some m), .int (iI v2), .int (iI v3)] (tw w0 m S1) (c_i (t_i w0 m (fun z4 S3 => pw_Wp E m_X2_sizeAll (d + 1) 16 [some (va_rf (some m)), some (.int (iI (v1 + z4))), some (.int (iI v2)), some (.int (iI (v3 + 1)))] [] (tw w0 m S3) Post)))))))) : pw_Wp E m_X2_sizeAll (d + 1) 16 [some (va_rf (some m)), some (.int (iI v1)), some (.int (iI v2)), some (.int (iI v3))] [] (tw w0 m S) Post := by
  refine s_X2_sizeAll_16 (some m) (iI v1) (iI v2) (iI v3) ?_
  refine tw_V ?_
  refine pw_avE (l_k (l_i rfl l_0)) (H.mono (t_iE (fun z2 S1 H => ?_)))
  obtain ⟨h5, H⟩ := H
  obtain ⟨h6, H⟩ := H
  refine f_leE (s := z2) (t := v3) rfl rfl h5 h6 H (fun H => ?_) (fun H => ?_)
  · exact pw_eqL (g_k (g_i rfl (g_i (iI_addE rfl rfl) (g_k g_0)))) H
  · refine tw_V ?_
    refine pw_avE (l_k (l_i rfl (l_i rfl l_0))) (H.mono (t_iE (fun z4 S3 H => ?_)))
    exact pw_eqL (g_k (g_i (iI_addE rfl rfl) (g_i rfl (g_i (iI_addE rfl rfl) g_0)))) H
theorem t_X2_spans_0 {E : pw_E} {d : Nat} {w0 : pw_W} {m : Nat} {S : tw_S} {Post : pw_R → pw_W → Prop} (hm : pw_base E ≤ m) (v1 : Int) (v2 : Int) (v3 : Int) (v4 : Int) (v5 : Int) (v6 : Bool) (H : pw_Cl E m_X2_layHeld d [va_rf (some m), .int (iI v1), .int (iI v2)] (tw w0 m (tw_sf S 0 0)) (c_z (t_b w0 m (fun b2 S1 => (if b2 = true then pw_Cl E m_X2_isAsking d [va_rf (some m), .int (iI v3)] (tw w0 m S1) (c_z (t_b w0 m (fun b4 S3 => (if b4 = true then pw_Cl E m_X2_isDoc d [va_rf (some m), .int (iI v4)] (tw w0 m S3) (c_z (t_b w0 m (fun b6 S5 => (if b6 = true then ((0 : Int) ≤ ((4 * v3) + v4) ∧ ((4 * v3) + v4) < 32 ∧ (rI v5 ∧ if v5 = (-1) then pw_Cl E m_X2_rowsIn d [.int (iI (S5.2.2 14 (Int.toNat ((4 * v3) + v4))))] (tw w0 m S5) (c_i (t_i w0 m (fun z10 S9 => Post (.inl (some (.int (iI z10)))) (tw w0 m S9)))) else pw_Wp E m_X2_spans (d + 1) 64 [none, none, none, none, none, some (.int (iI v5)), some (.int (bI v6)), some (.int (iI (S5.2.2 14 (Int.toNat ((4 * v3) + v4))))), some (.int (iI (-1))), some (.int (iI 0)), none] [] (tw w0 m S5) Post)) else Post (.inl (some (.int (iI (-1))))) (tw w0 m S5))))) else Post (.inl (some (.int (iI (-1))))) (tw w0 m S3))))) else Post (.inl (some (.int (iI (-1))))) (tw w0 m S1)))))) : pw_Wp E m_X2_spans (d + 1) 0 [some (va_rf (some m)), some (.int (iI v1)), some (.int (iI v2)), some (.int (iI v3)), some (.int (iI v4)), some (.int (iI v5)), some (.int (bI v6)), none, none, none, none] [] (tw w0 m S) Post := by
  refine s_X2_spans_0 (some m) (iI v1) (iI v2) (iI v3) (iI v4) (iI v5) v6 ?_
  refine tw_puti (x := 0) hm rfl rfl ?_
  refine tw_V ?_
  refine pw_avE (l_k (l_i rfl (l_i rfl l_0))) (H.mono (t_bE (fun b2 S1 H => ?_)))
  refine f_bE H (fun H => ?_) (fun H => ?_)
  · exact c_pi rfl H
  · refine tw_V ?_
    refine pw_avE (l_k (l_i rfl l_0)) (H.mono (t_bE (fun b4 S3 H => ?_)))
    refine f_bE H (fun H => ?_) (fun H => ?_)
    · exact c_pi rfl H
    · refine tw_V ?_
      refine pw_avE (l_k (l_i rfl l_0)) (H.mono (t_bE (fun b6 S5 H => ?_)))
      refine f_bE H (fun H => ?_) (fun H => ?_)
      · exact c_pi rfl H
      · refine tw_getr rfl ?_
        obtain ⟨h7, h8, H⟩ := H
        refine tw_aldi (k := 14) (t := ((4 * v3) + v4)) rfl (iI_addE (iI_mulE rfl rfl) rfl) h7 h8 ?_
        obtain ⟨h11, H⟩ := H
        refine f_eqE (s := v5) (t := (-1)) rfl rfl h11 (by constructor <;> decide) H (fun H => ?_) (fun H => ?_)
        · refine pw_avE (l_i rfl l_0) (H.mono (t_iE (fun z10 S9 H => ?_)))
          exact c_pi rfl H
        · exact pw_eqL (g_k (g_k (g_k (g_k (g_k (g_i rfl (g_k (g_i rfl (g_i rfl (g_i rfl (g_k g_0))))))))))) H
theorem t_X2_spans_64 {E : pw_E} {d : Nat} {w0 : pw_W} {m : Nat} {S : tw_S} {Post : pw_R → pw_W → Prop} (hm : pw_base E ≤ m) (v5 : Int) (v6 : Bool) (v7 : Int) (v8 : Int) (v9 : Int) (H : (rI v9 ∧ if (10 : Int) ≤ v9 then Post (.inl (some (.int (iI (-1))))) (tw w0 m S) else pw_Cl E m_X2_has d [.int (iI v7), .int (iI v9)] (tw w0 m S) (c_z (t_b w0 m (fun b2 S1 => (if b2 = true then (rI v9 ∧ if v9 = 0 then pw_Wp E m_X2_spans (d + 1) 105 [none, none, none, none, none, some (.int (iI v5)), some (.int (bI v6)), some (.int (iI v7)), none, some (.int (iI v9)), none] [.int (iI 1), .int (iI v8)] (tw w0 m S1) Post else pw_Cl E m_X2_has d [.int (iI v7), .int (iI (v9 - 1))] (tw w0 m S1) (c_z (t_b w0 m (fun b4 S3 => (if b4 = true then pw_Wp E m_X2_spans (d + 1) 105 [none, none, none, none, none, some (.int (iI v5)), some (.int (bI v6)), some (.int (iI v7)), none, some (.int (iI v9)), none] [.int (iI 0), .int (iI v8)] (tw w0 m S3) Post else pw_Wp E m_X2_spans (d + 1) 105 [none, none, none, none, none, some (.int (iI v5)), some (.int (bI v6)), some (.int (iI v7)), none, some (.int (iI v9)), none] [.int (iI 1), .int (iI v8)] (tw w0 m S3) Post))))) else pw_Wp E m_X2_spans (d + 1) 105 [none, none, none, none, none, some (.int (iI v5)), some (.int (bI v6)), some (.int (iI v7)), none, some (.int (iI v9)), none] [.int (iI 0), .int (iI v8)] (tw w0 m S1) Post)))))) : pw_Wp E m_X2_spans (d + 1) 64 [none, none, none, none, none, some (.int (iI v5)), some (.int (bI v6)), some (.int (iI v7)), some (.int (iI v8)), some (.int (iI v9)), none] [] (tw w0 m S) Post := by
  refine s_X2_spans_64 (iI v5) v6 (iI v7) (iI v8) (iI v9) ?_
  obtain ⟨h6, H⟩ := H
  refine f_leE (s := 10) (t := v9) rfl rfl (by constructor <;> decide) h6 H (fun H => ?_) (fun H => ?_)
  · exact c_pi rfl H
  · refine pw_avE (l_i rfl (l_i rfl l_0)) (H.mono (t_bE (fun b2 S1 H => ?_)))
    refine f_bE H (fun H => ?_) (fun H => ?_)
    · refine pw_stE (l_i rfl (l_i rfl l_0)) ?_
      exact pw_eqL (g_k (g_k (g_k (g_k (g_k (g_i rfl (g_k (g_i rfl (g_k (g_i rfl (g_k g_0))))))))))) H
    · obtain ⟨h5, H⟩ := H
      refine f_eqE (s := v9) (t := 0) rfl rfl h5 (by constructor <;> decide) H (fun H => ?_) (fun H => ?_)
      · refine pw_stE (l_i rfl (l_i rfl l_0)) ?_
        exact pw_eqL (g_k (g_k (g_k (g_k (g_k (g_i rfl (g_k (g_i rfl (g_k (g_i rfl (g_k g_0))))))))))) H
      · refine pw_avE (l_i rfl (l_i (iI_subE rfl rfl) l_0)) (H.mono (t_bE (fun b4 S3 H => ?_)))
        refine f_bE H (fun H => ?_) (fun H => ?_)
        · refine pw_stE (l_i rfl (l_i rfl l_0)) ?_
          exact pw_eqL (g_k (g_k (g_k (g_k (g_k (g_i rfl (g_k (g_i rfl (g_k (g_i rfl (g_k g_0))))))))))) H
        · refine pw_stE (l_i rfl (l_i rfl l_0)) ?_
          exact pw_eqL (g_k (g_k (g_k (g_k (g_k (g_i rfl (g_k (g_i rfl (g_k (g_i rfl (g_k g_0))))))))))) H
theorem t_X2_spans_105 {E : pw_E} {d : Nat} {w0 : pw_W} {m : Nat} {S : tw_S} {Post : pw_R → pw_W → Prop} (hm : pw_base E ≤ m) (v5 : Int) (v6 : Bool) (v7 : Int) (v9 : Int) (u0 : Int) (u1 : Int) (H : (if v6 = true then pw_Cl E m_X2_has d [.int (iI v7), .int (iI (v9 + 1))] (tw w0 m S) (c_z (t_b w0 m (fun b17 S16 => (if b17 = true then pw_Cl E m_X2_has d [.int (iI v7), .int (iI v9)] (tw w0 m S16) (c_z (t_b w0 m (fun b23 S22 => (if b23 = true then (rI (u1 + u0) ∧ rI v5 ∧ if (u1 + u0) = v5 then pw_Wp E m_X2_spans (d + 1) 64 [none, none, none, none, none, some (.int (iI v5)), some (.int (bI v6)), some (.int (iI v7)), some (.int (iI (u1 + u0))), some (.int (iI (v9 + 1))), none] [] (tw w0 m S22) Post else pw_Wp E m_X2_spans (d + 1) 64 [none, none, none, none, none, some (.int (iI v5)), some (.int (bI v6)), some (.int (iI v7)), some (.int (iI (u1 + u0))), some (.int (iI (v9 + 1))), none] [] (tw w0 m S22) Post) else pw_Wp E m_X2_spans (d + 1) 64 [none, none, none, none, none, some (.int (iI v5)), some (.int (bI v6)), some (.int (iI v7)), some (.int (iI (u1 + u0))), some (.int (iI (v9 + 1))), none] [] (tw w0 m S22) Post)))) else pw_Cl E m_X2_has d [.int (iI v7), .int (iI v9)] (tw w0 m S16) (c_z (t_b w0 m (fun b19 S18 => (if b19 = true then (rI (u1 + u0) ∧ rI v5 ∧ if (u1 + u0) = v5 then Post (.inl (some (.int (iI v9)))) (tw w0 m S18) else pw_Wp E m_X2_spans (d + 1) 64 [none, none, none, none, none, some (.int (iI v5)), some (.int (bI v6)), some (.int (iI v7)), some (.int (iI (u1 + u0))), some (.int (iI (v9 + 1))), none] [] (tw w0 m S18) Post) else pw_Wp E m_X2_spans (d + 1) 64 [none, none, none, none, none, some (.int (iI v5)), some (.int (bI v6)), some (.int (iI v7)), some (.int (iI (u1 + u0))), some (.int (iI (v9 + 1))), none] [] (tw w0 m S18) Post)))))))) else (rI v9 ∧ if v9 = 0 then pw_Cl E m_X2_has d [.int (iI v7), .int (iI v9)] (tw w0 m S) (c_z (t_b w0 m (fun b2 S1 => (if b2 = true then (rI (u1 + u0) ∧ rI v5 ∧ if (u1 + u0) = v5 then Post (.inl (some (.int (iI v9)))) (tw w0 m S1) else pw_Wp E m_X2_spans (d + 1) 64 [none, none, none, none, none, some (.int (iI v5)), some (.int (bI v6)), some (.int (iI v7)), some (.int (iI (u1 + u0))), some (.int (iI (v9 + 1))), none] [] (tw w0 m S1) Post) else pw_Wp E m_X2_spans (d + 1) 64 [none, none, none, none, none, some (.int (iI v5)), some (.int (bI v6)), some (.int (iI v7)), some (.int (iI (u1 + u0))), some (.int (iI (v9 + 1))), none] [] (tw w0 m S1) Post)))) else pw_Cl E m_X2_has d [.int (iI v7), .int (iI (v9 - 1))] (tw w0 m S) (c_z (t_b w0 m (fun b6 S5 => (if b6 = true then pw_Cl E m_X2_has d [.int (iI v7), .int (iI v9)] (tw w0 m S5) (c_z (t_b w0 m (fun b12 S11 => (if b12 = true then (rI (u1 + u0) ∧ rI v5 ∧ if (u1 + u0) = v5 then pw_Wp E m_X2_spans (d + 1) 64 [none, none, none, none, none, some (.int (iI v5)), some (.int (bI v6)), some (.int (iI v7)), some (.int (iI (u1 + u0))), some (.int (iI (v9 + 1))), none] [] (tw w0 m S11) Post else pw_Wp E m_X2_spans (d + 1) 64 [none, none, none, none, none, some (.int (iI v5)), some (.int (bI v6)), some (.int (iI v7)), some (.int (iI (u1 + u0))), some (.int (iI (v9 + 1))), none] [] (tw w0 m S11) Post) else pw_Wp E m_X2_spans (d + 1) 64 [none, none, none, none, none, some (.int (iI v5)), some (.int (bI v6)), some (.int (iI v7)), some (.int (iI (u1 + u0))), some (.int (iI (v9 + 1))), none] [] (tw w0 m S11) Post)))) else pw_Cl E m_X2_has d [.int (iI v7), .int (iI v9)] (tw w0 m S5) (c_z (t_b w0 m (fun b8 S7 => (if b8 = true then (rI (u1 + u0) ∧ rI v5 ∧ if (u1 + u0) = v5 then Post (.inl (some (.int (iI v9)))) (tw w0 m S7) else pw_Wp E m_X2_spans (d + 1) 64 [none, none, none, none, none, some (.int (iI v5)), some (.int (bI v6)), some (.int (iI v7)), some (.int (iI (u1 + u0))), some (.int (iI (v9 + 1))), none] [] (tw w0 m S7) Post) else pw_Wp E m_X2_spans (d + 1) 64 [none, none, none, none, none, some (.int (iI v5)), some (.int (bI v6)), some (.int (iI v7)), some (.int (iI (u1 + u0))), some (.int (iI (v9 + 1))), none] [] (tw w0 m S7) Post))))))))))) : pw_Wp E m_X2_spans (d + 1) 105 [none, none, none, none, none, some (.int (iI v5)), some (.int (bI v6)), some (.int (iI v7)), none, some (.int (iI v9)), none] [.int (iI u0), .int (iI u1)] (tw w0 m S) Post := by
  refine s_X2_spans_105 (iI v5) v6 (iI v7) (iI v9) (iI u0) (iI u1) ?_
  refine f_bE H (fun H => ?_) (fun H => ?_)
  · obtain ⟨h15, H⟩ := H
    refine f_eqE (s := v9) (t := 0) rfl rfl h15 (by constructor <;> decide) H (fun H => ?_) (fun H => ?_)
    · refine pw_avE (l_i rfl (l_i rfl l_0)) (H.mono (t_bE (fun b2 S1 H => ?_)))
      refine f_bE H (fun H => ?_) (fun H => ?_)
      · exact pw_eqL (g_k (g_k (g_k (g_k (g_k (g_i rfl (g_k (g_i rfl (g_i (iI_addE rfl rfl) (g_i (iI_addE rfl rfl) (g_k g_0))))))))))) H
      · obtain ⟨h3, H⟩ := H
        obtain ⟨h4, H⟩ := H
        refine f_eqE (s := (u1 + u0)) (t := v5) (iI_addE rfl rfl) rfl h3 h4 H (fun H => ?_) (fun H => ?_)
        · exact c_pi rfl H
        · exact pw_eqL (g_k (g_k (g_k (g_k (g_k (g_i rfl (g_k (g_i rfl (g_i (iI_addE rfl rfl) (g_i (iI_addE rfl rfl) (g_k g_0))))))))))) H
    · refine pw_avE (l_i rfl (l_i (iI_subE rfl rfl) l_0)) (H.mono (t_bE (fun b6 S5 H => ?_)))
      refine f_bE H (fun H => ?_) (fun H => ?_)
      · refine pw_avE (l_i rfl (l_i rfl l_0)) (H.mono (t_bE (fun b8 S7 H => ?_)))
        refine f_bE H (fun H => ?_) (fun H => ?_)
        · exact pw_eqL (g_k (g_k (g_k (g_k (g_k (g_i rfl (g_k (g_i rfl (g_i (iI_addE rfl rfl) (g_i (iI_addE rfl rfl) (g_k g_0))))))))))) H
        · obtain ⟨h9, H⟩ := H
          obtain ⟨h10, H⟩ := H
          refine f_eqE (s := (u1 + u0)) (t := v5) (iI_addE rfl rfl) rfl h9 h10 H (fun H => ?_) (fun H => ?_)
          · exact c_pi rfl H
          · exact pw_eqL (g_k (g_k (g_k (g_k (g_k (g_i rfl (g_k (g_i rfl (g_i (iI_addE rfl rfl) (g_i (iI_addE rfl rfl) (g_k g_0))))))))))) H
      · refine pw_avE (l_i rfl (l_i rfl l_0)) (H.mono (t_bE (fun b12 S11 H => ?_)))
        refine f_bE H (fun H => ?_) (fun H => ?_)
        · exact pw_eqL (g_k (g_k (g_k (g_k (g_k (g_i rfl (g_k (g_i rfl (g_i (iI_addE rfl rfl) (g_i (iI_addE rfl rfl) (g_k g_0))))))))))) H
        · obtain ⟨h13, H⟩ := H
          obtain ⟨h14, H⟩ := H
          refine f_eqE (s := (u1 + u0)) (t := v5) (iI_addE rfl rfl) rfl h13 h14 H (fun H => ?_) (fun H => ?_)
          · exact pw_eqL (g_k (g_k (g_k (g_k (g_k (g_i rfl (g_k (g_i rfl (g_i (iI_addE rfl rfl) (g_i (iI_addE rfl rfl) (g_k g_0))))))))))) H
          · exact pw_eqL (g_k (g_k (g_k (g_k (g_k (g_i rfl (g_k (g_i rfl (g_i (iI_addE rfl rfl) (g_i (iI_addE rfl rfl) (g_k g_0))))))))))) H
  · refine pw_avE (l_i rfl (l_i (iI_addE rfl rfl) l_0)) (H.mono (t_bE (fun b17 S16 H => ?_)))
    refine f_bE H (fun H => ?_) (fun H => ?_)
    · refine pw_avE (l_i rfl (l_i rfl l_0)) (H.mono (t_bE (fun b19 S18 H => ?_)))
      refine f_bE H (fun H => ?_) (fun H => ?_)
      · exact pw_eqL (g_k (g_k (g_k (g_k (g_k (g_i rfl (g_k (g_i rfl (g_i (iI_addE rfl rfl) (g_i (iI_addE rfl rfl) (g_k g_0))))))))))) H
      · obtain ⟨h20, H⟩ := H
        obtain ⟨h21, H⟩ := H
        refine f_eqE (s := (u1 + u0)) (t := v5) (iI_addE rfl rfl) rfl h20 h21 H (fun H => ?_) (fun H => ?_)
        · exact c_pi rfl H
        · exact pw_eqL (g_k (g_k (g_k (g_k (g_k (g_i rfl (g_k (g_i rfl (g_i (iI_addE rfl rfl) (g_i (iI_addE rfl rfl) (g_k g_0))))))))))) H
    · refine pw_avE (l_i rfl (l_i rfl l_0)) (H.mono (t_bE (fun b23 S22 H => ?_)))
      refine f_bE H (fun H => ?_) (fun H => ?_)
      · exact pw_eqL (g_k (g_k (g_k (g_k (g_k (g_i rfl (g_k (g_i rfl (g_i (iI_addE rfl rfl) (g_i (iI_addE rfl rfl) (g_k g_0))))))))))) H
      · obtain ⟨h24, H⟩ := H
        obtain ⟨h25, H⟩ := H
        refine f_eqE (s := (u1 + u0)) (t := v5) (iI_addE rfl rfl) rfl h24 h25 H (fun H => ?_) (fun H => ?_)
        · exact pw_eqL (g_k (g_k (g_k (g_k (g_k (g_i rfl (g_k (g_i rfl (g_i (iI_addE rfl rfl) (g_i (iI_addE rfl rfl) (g_k g_0))))))))))) H
        · exact pw_eqL (g_k (g_k (g_k (g_k (g_k (g_i rfl (g_k (g_i rfl (g_i (iI_addE rfl rfl) (g_i (iI_addE rfl rfl) (g_k g_0))))))))))) H
theorem t_X2_store_0 {E : pw_E} {d : Nat} {w0 : pw_W} {m : Nat} {S : tw_S} {Post : pw_R → pw_W → Prop} (hm : pw_base E ≤ m) (k1 : Nat) (hk : (decide (1 < k1) && decide (k1 < 16)) = true) (v2 : Int) (v3 : Int) (H : pw_Wp E m_X2_store (d + 1) 3 [some (va_rf (some m)), some (va_rf (some (m + k1))), some (.int (iI v2)), some (.int (iI v3)), some (.int (iI 0))] [] (tw w0 m S) Post) : pw_Wp E m_X2_store (d + 1) 0 [some (va_rf (some m)), some (va_rf (some (m + k1))), some (.int (iI v2)), some (.int (iI v3)), none] [] (tw w0 m S) Post := by
  refine s_X2_store_0 (some m) (some (m + k1)) (iI v2) (iI v3) ?_
  exact pw_eqL (g_k (g_k (g_i rfl (g_i rfl (g_i rfl g_0))))) H
theorem t_X2_store_3 {E : pw_E} {d : Nat} {w0 : pw_W} {m : Nat} {S : tw_S} {Post : pw_R → pw_W → Prop} (hm : pw_base E ≤ m) (k1 : Nat) (hk : (decide (1 < k1) && decide (k1 < 16)) = true) (v2 : Int) (v3 : Int) (v4 : Int) (H : (rI v2 ∧ rI v4 ∧ if v2 ≤ v4 then Post (.inl none) (tw w0 m S) else ((0 : Int) ≤ v4 ∧ v4 < 1526 ∧ ((0 : Int) ≤ ((v2 * v3) + v4) ∧ ((v2 * v3) + v4) < tw_len k1 ∧ pw_Wp E m_X2_store (d + 1) 3 [some (va_rf (some m)), some (va_rf (some (m + k1))), some (.int (iI v2)), some (.int (iI v3)), some (.int (iI (v4 + 1)))] [] (tw w0 m (tw_sa S k1 (Int.toNat ((v2 * v3) + v4)) (S.2.2 9 (Int.toNat v4)))) Post)))) : pw_Wp E m_X2_store (d + 1) 3 [some (va_rf (some m)), some (va_rf (some (m + k1))), some (.int (iI v2)), some (.int (iI v3)), some (.int (iI v4))] [] (tw w0 m S) Post := by
  refine s_X2_store_3 (some m) (some (m + k1)) (iI v2) (iI v3) (iI v4) ?_
  obtain ⟨h5, H⟩ := H
  obtain ⟨h6, H⟩ := H
  refine f_leE (s := v2) (t := v4) rfl rfl h5 h6 H (fun H => ?_) (fun H => ?_)
  · exact H
  · refine tw_getr rfl ?_
    obtain ⟨h1, h2, H⟩ := H
    refine tw_aldi (k := 9) (t := v4) rfl rfl h1 h2 ?_
    obtain ⟨h3, h4, H⟩ := H
    refine tw_asti (k := k1) (t := ((v2 * v3) + v4)) (x := (S.2.2 9 (Int.toNat v4))) hm hk (iI_addE (iI_mulE rfl rfl) rfl) h3 h4 rfl ?_
    exact pw_eqL (g_k (g_k (g_i rfl (g_i rfl (g_i (iI_addE rfl rfl) g_0))))) H
theorem t_X2_sureLetter_0 {E : pw_E} {d : Nat} {w0 : pw_W} {m : Nat} {S : tw_S} {Post : pw_R → pw_W → Prop} (hm : pw_base E ≤ m)  (H : pw_Wp E m_X2_sureLetter (d + 1) 2 [some (va_rf (some m)), some (.int (iI 1))] [] (tw w0 m S) Post) : pw_Wp E m_X2_sureLetter (d + 1) 0 [some (va_rf (some m)), none] [] (tw w0 m S) Post := by
  refine s_X2_sureLetter_0 (some m) ?_
  exact pw_eqL (g_k (g_i rfl g_0)) H
theorem t_X2_sureLetter_2 {E : pw_E} {d : Nat} {w0 : pw_W} {m : Nat} {S : tw_S} {Post : pw_R → pw_W → Prop} (hm : pw_base E ≤ m) (v1 : Int) (H : (rI v1 ∧ if (27 : Int) ≤ v1 then Post (.inl (some (.int (iI (-1))))) (tw w0 m S) else (rI (S.1 33) ∧ if (S.1 33) = (Int32.toInt (1 <<< ((iI v1) &&& 31))) then Post (.inl (some (.int (iI v1)))) (tw w0 m S) else pw_Wp E m_X2_sureLetter (d + 1) 2 [some (va_rf (some m)), some (.int (iI (v1 + 1)))] [] (tw w0 m S) Post))) : pw_Wp E m_X2_sureLetter (d + 1) 2 [some (va_rf (some m)), some (.int (iI v1))] [] (tw w0 m S) Post := by
  refine s_X2_sureLetter_2 (some m) (iI v1) ?_
  obtain ⟨h2, H⟩ := H
  refine f_leE (s := 27) (t := v1) rfl rfl (by constructor <;> decide) h2 H (fun H => ?_) (fun H => ?_)
  · exact c_pi rfl H
  · refine tw_geti rfl ?_
    obtain ⟨h1, H⟩ := H
    refine f_eqE (s := (S.1 33)) (t := (Int32.toInt (1 <<< ((iI v1) &&& 31)))) rfl (iI_oE _) h1 (rI_of _) H (fun H => ?_) (fun H => ?_)
    · exact c_pi rfl H
    · exact pw_eqL (g_k (g_i (iI_addE rfl rfl) g_0)) H
theorem t_X2_take_0 {E : pw_E} {d : Nat} {w0 : pw_W} {m : Nat} {S : tw_S} {Post : pw_R → pw_W → Prop} (hm : pw_base E ≤ m) (v1 : Int) (v2 : Int) (v3 : Int) (H : (rI (S.1 12) ∧ if (S.1 12) = 3 then ((0 : Int) ≤ v1 ∧ v1 < 4 ∧ pw_Cl E m_X2_in d [.int (iI (S.1 13)), .int (iI v2), .int (iI v3)] (tw w0 m (tw_sa S 10 (Int.toNat v1) (S.1 13))) (c_z (t_b w0 m (fun b4 S3 => (if b4 = true then pw_Cl E m_X2_token d [va_rf (some m)] (tw w0 m S3) (c_v (t_u w0 m (fun S7 => Post (.inl (some (.int (iI 1)))) (tw w0 m S7)))) else pw_Cl E m_X2_addsFault d [va_rf (some m), .int (iI 2), .int (iI (S3.1 11))] (tw w0 m S3) (c_v (t_u w0 m (fun S5 => pw_Cl E m_X2_token d [va_rf (some m)] (tw w0 m (tw_sf S5 22 0)) (c_v (t_u w0 m (fun S6 => Post (.inl (some (.int (iI 1)))) (tw w0 m S6)))))))))))) else pw_Cl E m_X2_fails d [va_rf (some m)] (tw w0 m S) (c_z (t_b w0 m (fun b9 S8 => Post (.inl (some (.int (bI b9)))) (tw w0 m S8)))))) : pw_Wp E m_X2_take (d + 1) 0 [some (va_rf (some m)), some (.int (iI v1)), some (.int (iI v2)), some (.int (iI v3))] [] (tw w0 m S) Post := by
  refine s_X2_take_0 (some m) (iI v1) (iI v2) (iI v3) ?_
  refine tw_geti rfl ?_
  obtain ⟨h10, H⟩ := H
  refine f_eqE (s := (S.1 12)) (t := 3) rfl rfl h10 (by constructor <;> decide) H (fun H => ?_) (fun H => ?_)
  · refine tw_getr rfl ?_
    refine tw_geti rfl ?_
    obtain ⟨h1, h2, H⟩ := H
    refine tw_asti (k := 10) (t := v1) (x := (S.1 13)) hm rfl rfl h1 h2 rfl ?_
    refine tw_geti rfl ?_
    refine pw_avE (l_i rfl (l_i rfl (l_i rfl l_0))) (H.mono (t_bE (fun b4 S3 H => ?_)))
    refine f_bE H (fun H => ?_) (fun H => ?_)
    · refine tw_geti rfl ?_
      refine tw_V ?_
      refine pw_avE (l_k (l_i rfl (l_i rfl l_0))) (H.mono (t_uE (fun S5 H => ?_)))
      refine tw_puti (x := 0) hm rfl rfl ?_
      refine tw_V ?_
      refine pw_avE (l_k l_0) (H.mono (t_uE (fun S6 H => ?_)))
      exact c_pi rfl H
    · refine tw_V ?_
      refine pw_avE (l_k l_0) (H.mono (t_uE (fun S7 H => ?_)))
      exact c_pi rfl H
  · refine tw_V ?_
    refine pw_avE (l_k l_0) (H.mono (t_bE (fun b9 S8 H => ?_)))
    exact H
theorem t_X2_takeWord_0 {E : pw_E} {d : Nat} {w0 : pw_W} {m : Nat} {S : tw_S} {Post : pw_R → pw_W → Prop} (hm : pw_base E ≤ m)  (H : (rI (S.1 12) ∧ if (S.1 12) = 2 then (rI ((S.1 9) - (S.1 11)) ∧ if ((S.1 9) - (S.1 11)) ≤ 4 then pw_Cl E m_X2_numberOf d [.long S.2.1] (tw w0 m S) (c_i (t_i w0 m (fun z2 S1 => ((0 : Int) ≤ (S.1 21) ∧ (S.1 21) < 300 ∧ pw_Cl E m_X2_token d [va_rf (some m)] (tw w0 m (tw_sf (tw_sa S1 11 (Int.toNat (S.1 21)) z2) 21 ((S1.1 21) + 1))) (c_v (t_u w0 m (fun S5 => Post (.inl (some (.int (iI 1)))) (tw w0 m S5)))))))) else pw_Cl E m_X2_addsFault d [va_rf (some m), .int (iI 2), .int (iI (S.1 11))] (tw w0 m S) (c_v (t_u w0 m (fun S6 => pw_Cl E m_X2_numberOf d [.long ((tw_sf S6 22 0).2.1)] (tw w0 m (tw_sf S6 22 0)) (c_i (t_i w0 m (fun z8 S7 => ((0 : Int) ≤ (S6.1 21) ∧ (S6.1 21) < 300 ∧ pw_Cl E m_X2_token d [va_rf (some m)] (tw w0 m (tw_sf (tw_sa S7 11 (Int.toNat (S6.1 21)) z8) 21 ((S7.1 21) + 1))) (c_v (t_u w0 m (fun S11 => Post (.inl (some (.int (iI 1)))) (tw w0 m S11)))))))))))) else pw_Cl E m_X2_fails d [va_rf (some m)] (tw w0 m S) (c_z (t_b w0 m (fun b14 S13 => Post (.inl (some (.int (bI b14)))) (tw w0 m S13)))))) : pw_Wp E m_X2_takeWord (d + 1) 0 [some (va_rf (some m))] [] (tw w0 m S) Post := by
  refine s_X2_takeWord_0 (some m) ?_
  refine tw_geti rfl ?_
  obtain ⟨h15, H⟩ := H
  refine f_eqE (s := (S.1 12)) (t := 2) rfl rfl h15 (by constructor <;> decide) H (fun H => ?_) (fun H => ?_)
  · refine tw_geti rfl ?_
    refine tw_geti rfl ?_
    obtain ⟨h12, H⟩ := H
    refine f_leE (s := ((S.1 9) - (S.1 11))) (t := 4) (iI_subE rfl rfl) rfl h12 (by constructor <;> decide) H (fun H => ?_) (fun H => ?_)
    · refine tw_getr rfl ?_
      refine tw_geti rfl ?_
      refine tw_getl ?_
      refine pw_avE (l_k l_0) (H.mono (t_iE (fun z2 S1 H => ?_)))
      obtain ⟨h3, h4, H⟩ := H
      refine tw_asti (k := 11) (t := (S.1 21)) (x := z2) hm rfl rfl h3 h4 rfl ?_
      refine tw_geti rfl ?_
      refine tw_puti (x := ((S1.1 21) + 1)) hm rfl (iI_addE rfl rfl) ?_
      refine tw_V ?_
      refine pw_avE (l_k l_0) (H.mono (t_uE (fun S5 H => ?_)))
      exact c_pi rfl H
    · refine tw_geti rfl ?_
      refine tw_V ?_
      refine pw_avE (l_k (l_i rfl (l_i rfl l_0))) (H.mono (t_uE (fun S6 H => ?_)))
      refine tw_puti (x := 0) hm rfl rfl ?_
      refine tw_getr rfl ?_
      refine tw_geti rfl ?_
      refine tw_getl ?_
      refine pw_avE (l_k l_0) (H.mono (t_iE (fun z8 S7 H => ?_)))
      obtain ⟨h9, h10, H⟩ := H
      refine tw_asti (k := 11) (t := (S6.1 21)) (x := z8) hm rfl rfl h9 h10 rfl ?_
      refine tw_geti rfl ?_
      refine tw_puti (x := ((S7.1 21) + 1)) hm rfl (iI_addE rfl rfl) ?_
      refine tw_V ?_
      refine pw_avE (l_k l_0) (H.mono (t_uE (fun S11 H => ?_)))
      exact c_pi rfl H
  · refine tw_V ?_
    refine pw_avE (l_k l_0) (H.mono (t_bE (fun b14 S13 H => ?_)))
    exact H
theorem t_X2_takeWords_0 {E : pw_E} {d : Nat} {w0 : pw_W} {m : Nat} {S : tw_S} {Post : pw_R → pw_W → Prop} (hm : pw_base E ≤ m) (v1 : Int) (H : (rI (S.1 12) ∧ if (S.1 12) = 2 then (rI (S.1 21) ∧ rI v1 ∧ if (S.1 21) < v1 then pw_Cl E m_X2_takeWord d [va_rf (some m)] (tw w0 m S) (c_z (t_b w0 m (fun b2 S1 => pw_Wp E m_X2_takeWords (d + 1) 0 [some (va_rf (some m)), some (.int (iI v1))] [] (tw w0 m S1) Post))) else pw_Cl E m_X2_addsFault d [va_rf (some m), .int (iI 3), .int (iI (S.1 11))] (tw w0 m S) (c_v (t_u w0 m (fun S3 => pw_Cl E m_X2_takeWord d [va_rf (some m)] (tw w0 m S3) (c_z (t_b w0 m (fun b5 S4 => pw_Wp E m_X2_takeWords (d + 1) 0 [some (va_rf (some m)), some (.int (iI v1))] [] (tw w0 m S4) Post))))))) else Post (.inl none) (tw w0 m S))) : pw_Wp E m_X2_takeWords (d + 1) 0 [some (va_rf (some m)), some (.int (iI v1))] [] (tw w0 m S) Post := by
  refine s_X2_takeWords_0 (some m) (iI v1) ?_
  refine tw_geti rfl ?_
  obtain ⟨h8, H⟩ := H
  refine f_eqE (s := (S.1 12)) (t := 2) rfl rfl h8 (by constructor <;> decide) H (fun H => ?_) (fun H => ?_)
  · refine tw_geti rfl ?_
    obtain ⟨h6, H⟩ := H
    obtain ⟨h7, H⟩ := H
    refine f_ltE (s := (S.1 21)) (t := v1) rfl rfl h6 h7 H (fun H => ?_) (fun H => ?_)
    · refine tw_V ?_
      refine pw_avE (l_k l_0) (H.mono (t_bE (fun b2 S1 H => ?_)))
      exact pw_eqL (g_k (g_i rfl g_0)) H
    · refine tw_geti rfl ?_
      refine tw_V ?_
      refine pw_avE (l_k (l_i rfl (l_i rfl l_0))) (H.mono (t_uE (fun S3 H => ?_)))
      refine tw_V ?_
      refine pw_avE (l_k l_0) (H.mono (t_bE (fun b5 S4 H => ?_)))
      exact pw_eqL (g_k (g_i rfl g_0)) H
  · exact H
theorem t_X2_text_0 {E : pw_E} {d : Nat} {w0 : pw_W} {m : Nat} {S : tw_S} {Post : pw_R → pw_W → Prop} (hm : pw_base E ≤ m) (v1 : Int) (v2 : Int) (H : pw_Cl E m_X2_in d [.int (iI v1), .int (iI 0), .int (iI 2)] (tw w0 m (tw_sa (tw_sa (tw_sa (tw_sf (tw_sf S 0 0) 10 (S.2.2 2 0)) 2 0 0) 3 0 0) 4 0 (-1))) (c_z (t_b w0 m (fun b10 S9 => (if b10 = true then (rI v2 ∧ if v2 = (-1) then ((0 : Int) ≤ v1 ∧ v1 < 12 ∧ (rI (S9.2.2 5 (Int.toNat v1)) ∧ if (S9.2.2 5 (Int.toNat v1)) = 2 then Post (.inl (some (.int (iI (-2))))) (tw w0 m S9) else pw_Cl E m_X2_readText d [va_rf (some m), .int (iI v1)] (tw w0 m S9) (c_z (t_b w0 m (fun b14 S13 => (if b14 = true then (rI v2 ∧ if v2 = (-1) then ((0 : Int) ≤ v1 ∧ v1 < 12 ∧ pw_Wp E m_X2_text (d + 1) 100 [some (va_rf (some m)), some (.int (iI v1)), some (.int (iI v2)), none] [.int (iI (S13.2.2 5 (Int.toNat v1)))] (tw w0 m S13) Post) else pw_Wp E m_X2_text (d + 1) 100 [some (va_rf (some m)), some (.int (iI v1)), some (.int (iI v2)), none] [.int (iI v2)] (tw w0 m S13) Post) else Post (.inl (some (.int (iI (-1))))) (tw w0 m S13))))))) else pw_Cl E m_X2_is d [va_rf (some m), .int (iI v1), .int (iI v2)] (tw w0 m S9) (c_z (t_b w0 m (fun b20 S19 => (if b20 = true then pw_Cl E m_X2_readText d [va_rf (some m), .int (iI v1)] (tw w0 m S19) (c_z (t_b w0 m (fun b22 S21 => (if b22 = true then (rI v2 ∧ if v2 = (-1) then ((0 : Int) ≤ v1 ∧ v1 < 12 ∧ pw_Wp E m_X2_text (d + 1) 100 [some (va_rf (some m)), some (.int (iI v1)), some (.int (iI v2)), none] [.int (iI (S21.2.2 5 (Int.toNat v1)))] (tw w0 m S21) Post) else pw_Wp E m_X2_text (d + 1) 100 [some (va_rf (some m)), some (.int (iI v1)), some (.int (iI v2)), none] [.int (iI v2)] (tw w0 m S21) Post) else Post (.inl (some (.int (iI (-1))))) (tw w0 m S21))))) else Post (.inl (some (.int (iI (-2))))) (tw w0 m S19)))))) else Post (.inl (some (.int (iI (-2))))) (tw w0 m S9)))))) : pw_Wp E m_X2_text (d + 1) 0 [some (va_rf (some m)), some (.int (iI v1)), some (.int (iI v2)), none] [] (tw w0 m S) Post := by
  refine s_X2_text_0 (some m) (iI v1) (iI v2) ?_
  refine tw_puti (x := 0) hm rfl rfl ?_
  refine tw_getr rfl ?_
  refine tw_aldi (k := 2) (t := 0) rfl rfl (by decide) (by decide) ?_
  refine tw_puti (x := (S.2.2 2 0)) hm rfl rfl ?_
  refine tw_getr rfl ?_
  refine tw_asti (k := 2) (t := 0) (x := 0) hm rfl rfl (by decide) (by decide) rfl ?_
  refine tw_getr rfl ?_
  refine tw_asti (k := 3) (t := 0) (x := 0) hm rfl rfl (by decide) (by decide) rfl ?_
  refine tw_getr rfl ?_
  refine tw_asti (k := 4) (t := 0) (x := (-1)) hm rfl rfl (by decide) (by decide) rfl ?_
  refine pw_avE (l_i rfl (l_i rfl (l_i rfl l_0))) (H.mono (t_bE (fun b10 S9 H => ?_)))
  refine f_bE H (fun H => ?_) (fun H => ?_)
  · exact c_pi rfl H
  · obtain ⟨h26, H⟩ := H
    refine f_eqE (s := v2) (t := (-1)) rfl rfl h26 (by constructor <;> decide) H (fun H => ?_) (fun H => ?_)
    · refine tw_getr rfl ?_
      obtain ⟨h11, h12, H⟩ := H
      refine tw_aldi (k := 5) (t := v1) rfl rfl h11 h12 ?_
      obtain ⟨h18, H⟩ := H
      refine f_eqE (s := (S9.2.2 5 (Int.toNat v1))) (t := 2) rfl rfl h18 (by constructor <;> decide) H (fun H => ?_) (fun H => ?_)
      · exact c_pi rfl H
      · refine tw_V ?_
        refine pw_avE (l_k (l_i rfl l_0)) (H.mono (t_bE (fun b14 S13 H => ?_)))
        refine f_bE H (fun H => ?_) (fun H => ?_)
        · exact c_pi rfl H
        · obtain ⟨h17, H⟩ := H
          refine f_eqE (s := v2) (t := (-1)) rfl rfl h17 (by constructor <;> decide) H (fun H => ?_) (fun H => ?_)
          · refine tw_getr rfl ?_
            obtain ⟨h15, h16, H⟩ := H
            refine tw_aldi (k := 5) (t := v1) rfl rfl h15 h16 ?_
            refine pw_stE (l_i rfl l_0) ?_
            exact pw_eqL (g_k (g_i rfl (g_i rfl (g_k g_0)))) H
          · refine pw_stE (l_i rfl l_0) ?_
            exact pw_eqL (g_k (g_i rfl (g_i rfl (g_k g_0)))) H
    · refine tw_V ?_
      refine pw_avE (l_k (l_i rfl (l_i rfl l_0))) (H.mono (t_bE (fun b20 S19 H => ?_)))
      refine f_bE H (fun H => ?_) (fun H => ?_)
      · exact c_pi rfl H
      · refine tw_V ?_
        refine pw_avE (l_k (l_i rfl l_0)) (H.mono (t_bE (fun b22 S21 H => ?_)))
        refine f_bE H (fun H => ?_) (fun H => ?_)
        · exact c_pi rfl H
        · obtain ⟨h25, H⟩ := H
          refine f_eqE (s := v2) (t := (-1)) rfl rfl h25 (by constructor <;> decide) H (fun H => ?_) (fun H => ?_)
          · refine tw_getr rfl ?_
            obtain ⟨h23, h24, H⟩ := H
            refine tw_aldi (k := 5) (t := v1) rfl rfl h23 h24 ?_
            refine pw_stE (l_i rfl l_0) ?_
            exact pw_eqL (g_k (g_i rfl (g_i rfl (g_k g_0)))) H
          · refine pw_stE (l_i rfl l_0) ?_
            exact pw_eqL (g_k (g_i rfl (g_i rfl (g_k g_0)))) H
theorem t_X2_text_100 {E : pw_E} {d : Nat} {w0 : pw_W} {m : Nat} {S : tw_S} {Post : pw_R → pw_W → Prop} (hm : pw_base E ≤ m) (v1 : Int) (v2 : Int) (u0 : Int) (H : ((0 : Int) ≤ v1 ∧ v1 < 12 ∧ (rI v2 ∧ if v2 = (-1) then ((0 : Int) ≤ v1 ∧ v1 < 12 ∧ (rI v1 ∧ if v1 = 0 then pw_Cl E m_X2_store d [va_rf (some m), va_rf (some (m + 6)), .int (iI 1526), .int (iI u0)] (tw w0 m (tw_sa S 5 (Int.toNat v1) ((S.2.2 5 (Int.toNat v1)) + 1))) (c_v (t_u w0 m (fun S5 => Post (.inl (some (.int (iI u0)))) (tw w0 m S5)))) else (rI v1 ∧ if v1 = 1 then pw_Cl E m_X2_store d [va_rf (some m), va_rf (some (m + 7)), .int (iI 57), .int (iI u0)] (tw w0 m (tw_sa S 5 (Int.toNat v1) ((S.2.2 5 (Int.toNat v1)) + 1))) (c_v (t_u w0 m (fun S6 => Post (.inl (some (.int (iI u0)))) (tw w0 m S6)))) else pw_Cl E m_X2_store d [va_rf (some m), va_rf (some (m + 8)), .int (iI 25), .int (iI u0)] (tw w0 m (tw_sa S 5 (Int.toNat v1) ((S.2.2 5 (Int.toNat v1)) + 1))) (c_v (t_u w0 m (fun S7 => Post (.inl (some (.int (iI u0)))) (tw w0 m S7))))))) else ((0 : Int) ≤ v1 ∧ v1 < 12 ∧ (rI v1 ∧ if v1 = 0 then pw_Cl E m_X2_store d [va_rf (some m), va_rf (some (m + 6)), .int (iI 1526), .int (iI u0)] (tw w0 m (tw_sa S 5 (Int.toNat v1) ((S.2.2 5 (Int.toNat v1)) + 0))) (c_v (t_u w0 m (fun S12 => Post (.inl (some (.int (iI u0)))) (tw w0 m S12)))) else (rI v1 ∧ if v1 = 1 then pw_Cl E m_X2_store d [va_rf (some m), va_rf (some (m + 7)), .int (iI 57), .int (iI u0)] (tw w0 m (tw_sa S 5 (Int.toNat v1) ((S.2.2 5 (Int.toNat v1)) + 0))) (c_v (t_u w0 m (fun S13 => Post (.inl (some (.int (iI u0)))) (tw w0 m S13)))) else pw_Cl E m_X2_store d [va_rf (some m), va_rf (some (m + 8)), .int (iI 25), .int (iI u0)] (tw w0 m (tw_sa S 5 (Int.toNat v1) ((S.2.2 5 (Int.toNat v1)) + 0))) (c_v (t_u w0 m (fun S14 => Post (.inl (some (.int (iI u0)))) (tw w0 m S14)))))))))) : pw_Wp E m_X2_text (d + 1) 100 [some (va_rf (some m)), some (.int (iI v1)), some (.int (iI v2)), none] [.int (iI u0)] (tw w0 m S) Post := by
  refine s_X2_text_100 (some m) (iI v1) (iI v2) (iI u0) ?_
  refine tw_getr rfl ?_
  obtain ⟨h1, h2, H⟩ := H
  refine tw_aldi (k := 5) (t := v1) rfl rfl h1 h2 ?_
  obtain ⟨h17, H⟩ := H
  refine f_eqE (s := v2) (t := (-1)) rfl rfl h17 (by constructor <;> decide) H (fun H => ?_) (fun H => ?_)
  · obtain ⟨h3, h4, H⟩ := H
    refine tw_asti (k := 5) (t := v1) (x := ((S.2.2 5 (Int.toNat v1)) + 1)) hm rfl rfl h3 h4 (iI_addE rfl rfl) ?_
    obtain ⟨h9, H⟩ := H
    refine f_eqE (s := v1) (t := 0) rfl rfl h9 (by constructor <;> decide) H (fun H => ?_) (fun H => ?_)
    · refine tw_getr rfl ?_
      refine tw_V ?_
      refine pw_avE (l_k (l_k (l_i rfl (l_i rfl l_0)))) (H.mono (t_uE (fun S5 H => ?_)))
      exact c_pi rfl H
    · obtain ⟨h8, H⟩ := H
      refine f_eqE (s := v1) (t := 1) rfl rfl h8 (by constructor <;> decide) H (fun H => ?_) (fun H => ?_)
      · refine tw_getr rfl ?_
        refine tw_V ?_
        refine pw_avE (l_k (l_k (l_i rfl (l_i rfl l_0)))) (H.mono (t_uE (fun S6 H => ?_)))
        exact c_pi rfl H
      · refine tw_getr rfl ?_
        refine tw_V ?_
        refine pw_avE (l_k (l_k (l_i rfl (l_i rfl l_0)))) (H.mono (t_uE (fun S7 H => ?_)))
        exact c_pi rfl H
  · obtain ⟨h10, h11, H⟩ := H
    refine tw_asti (k := 5) (t := v1) (x := ((S.2.2 5 (Int.toNat v1)) + 0)) hm rfl rfl h10 h11 (iI_addE rfl rfl) ?_
    obtain ⟨h16, H⟩ := H
    refine f_eqE (s := v1) (t := 0) rfl rfl h16 (by constructor <;> decide) H (fun H => ?_) (fun H => ?_)
    · refine tw_getr rfl ?_
      refine tw_V ?_
      refine pw_avE (l_k (l_k (l_i rfl (l_i rfl l_0)))) (H.mono (t_uE (fun S12 H => ?_)))
      exact c_pi rfl H
    · obtain ⟨h15, H⟩ := H
      refine f_eqE (s := v1) (t := 1) rfl rfl h15 (by constructor <;> decide) H (fun H => ?_) (fun H => ?_)
      · refine tw_getr rfl ?_
        refine tw_V ?_
        refine pw_avE (l_k (l_k (l_i rfl (l_i rfl l_0)))) (H.mono (t_uE (fun S13 H => ?_)))
        exact c_pi rfl H
      · refine tw_getr rfl ?_
        refine tw_V ?_
        refine pw_avE (l_k (l_k (l_i rfl (l_i rfl l_0)))) (H.mono (t_uE (fun S14 H => ?_)))
        exact c_pi rfl H
theorem t_X2_times_0 {E : pw_E} {d : Nat} {w0 : pw_W} {m : Nat} {S : tw_S} {Post : pw_R → pw_W → Prop} (hm : pw_base E ≤ m) (v1 : Int) (v2 : Int) (v3 : Int) (v4 : Int) (v5 : Int) (H : pw_Cl E m_X2_hasAsking d [va_rf (some m), .int (iI v2)] (tw w0 m (tw_sf S 0 0)) (c_z (t_b w0 m (fun b2 S1 => (if b2 = true then pw_Cl E m_X2_hand d [va_rf (some m), .int (iI v1)] (tw w0 m S1) (c_z (t_b w0 m (fun b4 S3 => (if b4 = true then pw_Cl E m_X2_isAsking d [va_rf (some m), .int (iI v3)] (tw w0 m S3) (c_z (t_b w0 m (fun b6 S5 => (if b6 = true then pw_Cl E m_X2_isVersion d [va_rf (some m), .int (iI v4), .int (iI v5)] (tw w0 m S5) (c_z (t_b w0 m (fun b8 S7 => (if b8 = true then pw_Cl E m_X2_ofAsking d [va_rf (some m), .int (iI v3), .int (iI 0)] (tw w0 m S7) (c_i (t_i w0 m (fun z10 S9 => (rI z10 ∧ if z10 = 0 then pw_Cl E m_X2_timesOf d [va_rf (some m), .int (iI v3), .int (iI v4), .int (iI v5)] (tw w0 m S9) (c_i (t_i w0 m (fun z12 S11 => Post (.inl (some (.int (iI z12)))) (tw w0 m S11)))) else Post (.inl (some (.int (iI (-1))))) (tw w0 m S9))))) else Post (.inl (some (.int (iI (-1))))) (tw w0 m S7))))) else Post (.inl (some (.int (iI (-1))))) (tw w0 m S5))))) else Post (.inl (some (.int (iI (-1))))) (tw w0 m S3))))) else Post (.inl (some (.int (iI (-1))))) (tw w0 m S1)))))) : pw_Wp E m_X2_times (d + 1) 0 [some (va_rf (some m)), some (.int (iI v1)), some (.int (iI v2)), some (.int (iI v3)), some (.int (iI v4)), some (.int (iI v5))] [] (tw w0 m S) Post := by
  refine s_X2_times_0 (some m) (iI v1) (iI v2) (iI v3) (iI v4) (iI v5) ?_
  refine tw_puti (x := 0) hm rfl rfl ?_
  refine tw_V ?_
  refine pw_avE (l_k (l_i rfl l_0)) (H.mono (t_bE (fun b2 S1 H => ?_)))
  refine f_bE H (fun H => ?_) (fun H => ?_)
  · exact c_pi rfl H
  · refine tw_V ?_
    refine pw_avE (l_k (l_i rfl l_0)) (H.mono (t_bE (fun b4 S3 H => ?_)))
    refine f_bE H (fun H => ?_) (fun H => ?_)
    · exact c_pi rfl H
    · refine tw_V ?_
      refine pw_avE (l_k (l_i rfl l_0)) (H.mono (t_bE (fun b6 S5 H => ?_)))
      refine f_bE H (fun H => ?_) (fun H => ?_)
      · exact c_pi rfl H
      · refine tw_V ?_
        refine pw_avE (l_k (l_i rfl (l_i rfl l_0))) (H.mono (t_bE (fun b8 S7 H => ?_)))
        refine f_bE H (fun H => ?_) (fun H => ?_)
        · exact c_pi rfl H
        · refine tw_V ?_
          refine pw_avE (l_k (l_i rfl (l_i rfl l_0))) (H.mono (t_iE (fun z10 S9 H => ?_)))
          obtain ⟨h13, H⟩ := H
          refine f_eqE (s := z10) (t := 0) rfl rfl h13 (by constructor <;> decide) H (fun H => ?_) (fun H => ?_)
          · refine tw_V ?_
            refine pw_avE (l_k (l_i rfl (l_i rfl (l_i rfl l_0)))) (H.mono (t_iE (fun z12 S11 H => ?_)))
            exact c_pi rfl H
          · exact c_pi rfl H
theorem t_X2_timesIn_0 {E : pw_E} {d : Nat} {w0 : pw_W} {m : Nat} {S : tw_S} {Post : pw_R → pw_W → Prop} (hm : pw_base E ≤ m) (v1 : Int) (v2 : Int) (v3 : Int) (H : pw_Wp E m_X2_timesIn (d + 1) 6 [some (va_rf (some m)), some (.int (iI v1)), some (.int (iI v2)), some (.int (iI v3)), some (.int (iI 0)), some (.int (iI 0))] [] (tw w0 m S) Post) : pw_Wp E m_X2_timesIn (d + 1) 0 [some (va_rf (some m)), some (.int (iI v1)), some (.int (iI v2)), some (.int (iI v3)), none, none] [] (tw w0 m S) Post := by
  refine s_X2_timesIn_0 (some m) (iI v1) (iI v2) (iI v3) ?_
  exact pw_eqL (g_k (g_i rfl (g_i rfl (g_i rfl (g_i rfl (g_i rfl g_0)))))) H
theorem t_X2_timesIn_6 {E : pw_E} {d : Nat} {w0 : pw_W} {m : Nat} {S : tw_S} {Post : pw_R → pw_W → Prop} (hm : pw_base E ≤ m) (v1 : Int) (v2 : Int) (v3 : Int) (v4 : Int) (v5 : Int) (H : pw_Cl E m_X2_longOf d [va_rf (some m), .int (iI v1), .int (iI v2)] (tw w0 m S) (c_i (t_i w0 m (fun z2 S1 => (rI z2 ∧ rI v5 ∧ if z2 ≤ v5 then Post (.inl (some (.int (iI v4)))) (tw w0 m S1) else pw_Cl E m_X2_wordAt d [va_rf (some m), .int (iI v1), .int (iI v2), .int (iI v5)] (tw w0 m S1) (c_i (t_i w0 m (fun z4 S3 => (rI z4 ∧ rI v3 ∧ if z4 = v3 then pw_Wp E m_X2_timesIn (d + 1) 6 [some (va_rf (some m)), some (.int (iI v1)), some (.int (iI v2)), some (.int (iI v3)), some (.int (iI (v4 + 1))), some (.int (iI (v5 + 1)))] [] (tw w0 m S3) Post else pw_Wp E m_X2_timesIn (d + 1) 6 [some (va_rf (some m)), some (.int (iI v1)), some (.int (iI v2)), some (.int (iI v3)), some (.int (iI (v4 + 0))), some (.int (iI (v5 + 1)))] [] (tw w0 m S3) Post))))))))) : pw_Wp E m_X2_timesIn (d + 1) 6 [some (va_rf (some m)), some (.int (iI v1)), some (.int (iI v2)), some (.int (iI v3)), some (.int (iI v4)), some (.int (iI v5))] [] (tw w0 m S) Post := by
  refine s_X2_timesIn_6 (some m) (iI v1) (iI v2) (iI v3) (iI v4) (iI v5) ?_
  refine tw_V ?_
  refine pw_avE (l_k (l_i rfl (l_i rfl l_0))) (H.mono (t_iE (fun z2 S1 H => ?_)))
  obtain ⟨h7, H⟩ := H
  obtain ⟨h8, H⟩ := H
  refine f_leE (s := z2) (t := v5) rfl rfl h7 h8 H (fun H => ?_) (fun H => ?_)
  · exact c_pi rfl H
  · refine tw_V ?_
    refine pw_avE (l_k (l_i rfl (l_i rfl (l_i rfl l_0)))) (H.mono (t_iE (fun z4 S3 H => ?_)))
    obtain ⟨h5, H⟩ := H
    obtain ⟨h6, H⟩ := H
    refine f_eqE (s := z4) (t := v3) rfl rfl h5 h6 H (fun H => ?_) (fun H => ?_)
    · exact pw_eqL (g_k (g_i rfl (g_i rfl (g_i rfl (g_i (iI_addE rfl rfl) (g_i (iI_addE rfl rfl) g_0)))))) H
    · exact pw_eqL (g_k (g_i rfl (g_i rfl (g_i rfl (g_i (iI_addE rfl rfl) (g_i (iI_addE rfl rfl) g_0)))))) H
theorem t_X2_timesOf_0 {E : pw_E} {d : Nat} {w0 : pw_W} {m : Nat} {S : tw_S} {Post : pw_R → pw_W → Prop} (hm : pw_base E ≤ m) (v1 : Int) (v2 : Int) (v3 : Int) (H : pw_Wp E m_X2_timesOf (d + 1) 6 [some (va_rf (some m)), some (.int (iI v1)), some (.int (iI v2)), some (.int (iI v3)), some (.int (iI 0)), some (.int (iI 0))] [] (tw w0 m S) Post) : pw_Wp E m_X2_timesOf (d + 1) 0 [some (va_rf (some m)), some (.int (iI v1)), some (.int (iI v2)), some (.int (iI v3)), none, none] [] (tw w0 m S) Post := by
  refine s_X2_timesOf_0 (some m) (iI v1) (iI v2) (iI v3) ?_
  exact pw_eqL (g_k (g_i rfl (g_i rfl (g_i rfl (g_i rfl (g_i rfl g_0)))))) H
theorem t_X2_timesOf_6 {E : pw_E} {d : Nat} {w0 : pw_W} {m : Nat} {S : tw_S} {Post : pw_R → pw_W → Prop} (hm : pw_base E ≤ m) (v1 : Int) (v2 : Int) (v3 : Int) (v4 : Int) (v5 : Int) (H : pw_Cl E m_X2_longOf d [va_rf (some m), .int (iI v2), .int (iI v3)] (tw w0 m S) (c_i (t_i w0 m (fun z2 S1 => (rI z2 ∧ rI v5 ∧ if z2 ≤ v5 then Post (.inl (some (.int (iI v4)))) (tw w0 m S1) else pw_Cl E m_X2_beginsAt d [va_rf (some m), .int (iI v1), .int (iI v2), .int (iI v3), .int (iI v5)] (tw w0 m S1) (c_z (t_b w0 m (fun b4 S3 => (if b4 = true then pw_Wp E m_X2_timesOf (d + 1) 6 [some (va_rf (some m)), some (.int (iI v1)), some (.int (iI v2)), some (.int (iI v3)), some (.int (iI (v4 + 1))), some (.int (iI (v5 + 1)))] [] (tw w0 m S3) Post else pw_Wp E m_X2_timesOf (d + 1) 6 [some (va_rf (some m)), some (.int (iI v1)), some (.int (iI v2)), some (.int (iI v3)), some (.int (iI (v4 + 0))), some (.int (iI (v5 + 1)))] [] (tw w0 m S3) Post))))))))) : pw_Wp E m_X2_timesOf (d + 1) 6 [some (va_rf (some m)), some (.int (iI v1)), some (.int (iI v2)), some (.int (iI v3)), some (.int (iI v4)), some (.int (iI v5))] [] (tw w0 m S) Post := by
  refine s_X2_timesOf_6 (some m) (iI v1) (iI v2) (iI v3) (iI v4) (iI v5) ?_
  refine tw_V ?_
  refine pw_avE (l_k (l_i rfl (l_i rfl l_0))) (H.mono (t_iE (fun z2 S1 H => ?_)))
  obtain ⟨h5, H⟩ := H
  obtain ⟨h6, H⟩ := H
  refine f_leE (s := z2) (t := v5) rfl rfl h5 h6 H (fun H => ?_) (fun H => ?_)
  · exact c_pi rfl H
  · refine tw_V ?_
    refine pw_avE (l_k (l_i rfl (l_i rfl (l_i rfl (l_i rfl l_0))))) (H.mono (t_bE (fun b4 S3 H => ?_)))
    refine f_bE H (fun H => ?_) (fun H => ?_)
    · exact pw_eqL (g_k (g_i rfl (g_i rfl (g_i rfl (g_i (iI_addE rfl rfl) (g_i (iI_addE rfl rfl) g_0)))))) H
    · exact pw_eqL (g_k (g_i rfl (g_i rfl (g_i rfl (g_i (iI_addE rfl rfl) (g_i (iI_addE rfl rfl) g_0)))))) H
theorem t_X2_token_0 {E : pw_E} {d : Nat} {w0 : pw_W} {m : Nat} {S : tw_S} {Post : pw_R → pw_W → Prop} (hm : pw_base E ≤ m)  (H : pw_Cl E m_X2_see d [va_rf (some m)] (tw w0 m S) (c_i (t_i w0 m (fun z2 S1 => (rI z2 ∧ if z2 = 10 then pw_Wp E m_X2_token (d + 1) 0 [some (va_rf (some m)), none, none] [] (tw w0 m (tw_sf S1 9 ((S1.1 9) + 1))) Post else pw_Cl E m_X2_see d [va_rf (some m)] (tw w0 m S1) (c_i (t_i w0 m (fun z4 S3 => (rI z4 ∧ if z4 = 32 then pw_Wp E m_X2_token (d + 1) 0 [some (va_rf (some m)), none, none] [] (tw w0 m (tw_sf S3 9 ((S3.1 9) + 1))) Post else pw_Cl E m_X2_see d [va_rf (some m)] (tw w0 m (tw_sf S3 11 (S3.1 9))) (c_i (t_i w0 m (fun z6 S5 => (rI z6 ∧ if (0 : Int) ≤ z6 then pw_Cl E m_X2_in d [.int (iI z6), .int (iI 97), .int (iI 122)] (tw w0 m (tw_sl S5 0)) (c_z (t_b w0 m (fun b8 S7 => (if b8 = true then pw_Wp E m_X2_token (d + 1) 74 [some (va_rf (some m)), none, some (.int (iI 0))] [] (tw w0 m S7) Post else pw_Cl E m_X2_in d [.int (iI z6), .int (iI 48), .int (iI 57)] (tw w0 m S7) (c_z (t_b w0 m (fun b10 S9 => (if b10 = true then pw_Wp E m_X2_token (d + 1) 163 [some (va_rf (some m)), none, some (.int (iI 0))] [] (tw w0 m (tw_sf S9 13 0)) Post else (rI z6 ∧ if z6 = 59 then Post (.inl none) (tw w0 m (tw_sf (tw_sf S9 9 ((S9.1 9) + 1)) 12 4)) else Post (.inl none) (tw w0 m (tw_sf (tw_sf S9 9 ((S9.1 9) + 1)) 12 1))))))))))) else Post (.inl none) (tw w0 m (tw_sf (tw_sl S5 0) 12 0))))))))))))))) : pw_Wp E m_X2_token (d + 1) 0 [some (va_rf (some m)), none, none] [] (tw w0 m S) Post := by
  refine s_X2_token_0 (some m) ?_
  refine tw_V ?_
  refine pw_avE (l_k l_0) (H.mono (t_iE (fun z2 S1 H => ?_)))
  obtain ⟨h14, H⟩ := H
  refine f_eqE (s := z2) (t := 10) rfl rfl h14 (by constructor <;> decide) H (fun H => ?_) (fun H => ?_)
  · refine tw_geti rfl ?_
    refine tw_puti (x := ((S1.1 9) + 1)) hm rfl (iI_addE rfl rfl) ?_
    exact pw_eqL (g_k (g_k (g_k g_0))) H
  · refine tw_V ?_
    refine pw_avE (l_k l_0) (H.mono (t_iE (fun z4 S3 H => ?_)))
    obtain ⟨h13, H⟩ := H
    refine f_eqE (s := z4) (t := 32) rfl rfl h13 (by constructor <;> decide) H (fun H => ?_) (fun H => ?_)
    · refine tw_geti rfl ?_
      refine tw_puti (x := ((S3.1 9) + 1)) hm rfl (iI_addE rfl rfl) ?_
      exact pw_eqL (g_k (g_k (g_k g_0))) H
    · refine tw_geti rfl ?_
      refine tw_puti (x := (S3.1 9)) hm rfl rfl ?_
      refine tw_V ?_
      refine pw_avE (l_k l_0) (H.mono (t_iE (fun z6 S5 H => ?_)))
      refine tw_putl hm ?_
      obtain ⟨h12, H⟩ := H
      refine f_leE (s := 0) (t := z6) rfl rfl (by constructor <;> decide) h12 H (fun H => ?_) (fun H => ?_)
      · refine pw_avE (l_i rfl (l_i rfl (l_i rfl l_0))) (H.mono (t_bE (fun b8 S7 H => ?_)))
        refine f_bE H (fun H => ?_) (fun H => ?_)
        · refine pw_avE (l_i rfl (l_i rfl (l_i rfl l_0))) (H.mono (t_bE (fun b10 S9 H => ?_)))
          refine f_bE H (fun H => ?_) (fun H => ?_)
          · refine tw_geti rfl ?_
            refine tw_puti (x := ((S9.1 9) + 1)) hm rfl (iI_addE rfl rfl) ?_
            obtain ⟨h11, H⟩ := H
            refine f_eqE (s := z6) (t := 59) rfl rfl h11 (by constructor <;> decide) H (fun H => ?_) (fun H => ?_)
            · refine tw_puti (x := 4) hm rfl rfl ?_
              exact H
            · refine tw_puti (x := 1) hm rfl rfl ?_
              exact H
          · refine tw_puti (x := 0) hm rfl rfl ?_
            exact pw_eqL (g_k (g_k (g_i rfl g_0))) H
        · exact pw_eqL (g_k (g_k (g_i rfl g_0))) H
      · refine tw_puti (x := 0) hm rfl rfl ?_
        exact H
theorem t_X2_token_74 {E : pw_E} {d : Nat} {w0 : pw_W} {m : Nat} {S : tw_S} {Post : pw_R → pw_W → Prop} (hm : pw_base E ≤ m) (v2 : Int) (H : pw_Cl E m_X2_see d [va_rf (some m)] (tw w0 m S) (c_i (t_i w0 m (fun z2 S1 => pw_Cl E m_X2_in d [.int (iI z2), .int (iI 97), .int (iI 122)] (tw w0 m S1) (c_z (t_b w0 m (fun b4 S3 => (if b4 = true then pw_Cl E m_X2_see d [va_rf (some m)] (tw w0 m S3) (c_i (t_i w0 m (fun z7 S6 => pw_Wp E m_X2_token (d + 1) 74 [some (va_rf (some m)), none, some (.int (iI (v2 + 1)))] [] (tw w0 m (tw_sf (tw_sl S6 ((S3.2.1 <<< ((8 : Int32).toInt64 &&& 63)) ||| (iI z7).toInt64)) 9 ((S6.1 9) + 1))) Post))) else (rI v2 ∧ if v2 ≤ 8 then Post (.inl none) (tw w0 m (tw_sf (tw_sl S3 S3.2.1) 12 2)) else Post (.inl none) (tw w0 m (tw_sf (tw_sl S3 0) 12 2))))))))))) : pw_Wp E m_X2_token (d + 1) 74 [some (va_rf (some m)), none, some (.int (iI v2))] [] (tw w0 m S) Post := by
  refine s_X2_token_74 (some m) (iI v2) ?_
  refine tw_V ?_
  refine pw_avE (l_k l_0) (H.mono (t_iE (fun z2 S1 H => ?_)))
  refine pw_avE (l_i rfl (l_i rfl (l_i rfl l_0))) (H.mono (t_bE (fun b4 S3 H => ?_)))
  refine f_bE H (fun H => ?_) (fun H => ?_)
  · obtain ⟨h5, H⟩ := H
    refine f_leE (s := v2) (t := 8) rfl rfl h5 (by constructor <;> decide) H (fun H => ?_) (fun H => ?_)
    · refine tw_getl ?_
      refine tw_putl hm ?_
      refine tw_puti (x := 2) hm rfl rfl ?_
      exact H
    · refine tw_putl hm ?_
      refine tw_puti (x := 2) hm rfl rfl ?_
      exact H
  · refine tw_getl ?_
    refine tw_V ?_
    refine pw_avE (l_k l_0) (H.mono (t_iE (fun z7 S6 H => ?_)))
    refine tw_putl hm ?_
    refine tw_geti rfl ?_
    refine tw_puti (x := ((S6.1 9) + 1)) hm rfl (iI_addE rfl rfl) ?_
    exact pw_eqL (g_k (g_k (g_i (iI_addE rfl rfl) g_0))) H
theorem t_X2_token_163 {E : pw_E} {d : Nat} {w0 : pw_W} {m : Nat} {S : tw_S} {Post : pw_R → pw_W → Prop} (hm : pw_base E ≤ m) (v2 : Int) (H : pw_Cl E m_X2_see d [va_rf (some m)] (tw w0 m S) (c_i (t_i w0 m (fun z2 S1 => pw_Cl E m_X2_in d [.int (iI z2), .int (iI 48), .int (iI 57)] (tw w0 m S1) (c_z (t_b w0 m (fun b4 S3 => (if b4 = true then (rI v2 ∧ if (2 : Int) ≤ v2 then pw_Wp E m_X2_token (d + 1) 163 [some (va_rf (some m)), none, some (.int (iI (v2 + 1)))] [] (tw w0 m (tw_sf (tw_sf S3 13 (S3.1 13)) 9 ((S3.1 9) + 1))) Post else pw_Cl E m_X2_see d [va_rf (some m)] (tw w0 m S3) (c_i (t_i w0 m (fun z7 S6 => pw_Wp E m_X2_token (d + 1) 163 [some (va_rf (some m)), none, some (.int (iI (v2 + 1)))] [] (tw w0 m (tw_sf (tw_sf S6 13 (((10 * (S3.1 13)) + z7) - 48)) 9 ((S6.1 9) + 1))) Post)))) else (rI v2 ∧ if v2 ≤ 2 then Post (.inl none) (tw w0 m (tw_sf S3 12 3)) else Post (.inl none) (tw w0 m (tw_sf S3 12 1))))))))))) : pw_Wp E m_X2_token (d + 1) 163 [some (va_rf (some m)), none, some (.int (iI v2))] [] (tw w0 m S) Post := by
  refine s_X2_token_163 (some m) (iI v2) ?_
  refine tw_V ?_
  refine pw_avE (l_k l_0) (H.mono (t_iE (fun z2 S1 H => ?_)))
  refine pw_avE (l_i rfl (l_i rfl (l_i rfl l_0))) (H.mono (t_bE (fun b4 S3 H => ?_)))
  refine f_bE H (fun H => ?_) (fun H => ?_)
  · obtain ⟨h5, H⟩ := H
    refine f_leE (s := v2) (t := 2) rfl rfl h5 (by constructor <;> decide) H (fun H => ?_) (fun H => ?_)
    · refine tw_puti (x := 3) hm rfl rfl ?_
      exact H
    · refine tw_puti (x := 1) hm rfl rfl ?_
      exact H
  · obtain ⟨h8, H⟩ := H
    refine f_leE (s := 2) (t := v2) rfl rfl (by constructor <;> decide) h8 H (fun H => ?_) (fun H => ?_)
    · refine tw_geti rfl ?_
      refine tw_puti (x := (S3.1 13)) hm rfl rfl ?_
      refine tw_geti rfl ?_
      refine tw_puti (x := ((S3.1 9) + 1)) hm rfl (iI_addE rfl rfl) ?_
      exact pw_eqL (g_k (g_k (g_i (iI_addE rfl rfl) g_0))) H
    · refine tw_geti rfl ?_
      refine tw_V ?_
      refine pw_avE (l_k l_0) (H.mono (t_iE (fun z7 S6 H => ?_)))
      refine tw_puti (x := (((10 * (S3.1 13)) + z7) - 48)) hm rfl (iI_subE (iI_addE (iI_mulE rfl rfl) rfl) rfl) ?_
      refine tw_geti rfl ?_
      refine tw_puti (x := ((S6.1 9) + 1)) hm rfl (iI_addE rfl rfl) ?_
      exact pw_eqL (g_k (g_k (g_i (iI_addE rfl rfl) g_0))) H
theorem t_X2_tokenAt_0 {E : pw_E} {d : Nat} {w0 : pw_W} {m : Nat} {S : tw_S} {Post : pw_R → pw_W → Prop} (hm : pw_base E ≤ m) (v1 : Int) (v2 : Int) (v3 : Int) (H : pw_Cl E m_X2_at d [.int (iI v1), .int (iI v2)] (tw w0 m S) (c_i (t_i w0 m (fun z2 S1 => ((0 : Int) ≤ ((86 + (20 * z2)) + v3) ∧ ((86 + (20 * z2)) + v3) < 1526 ∧ Post (.inl (some (.int (iI (S1.2.2 9 (Int.toNat ((86 + (20 * z2)) + v3))))))) (tw w0 m S1)))))) : pw_Wp E m_X2_tokenAt (d + 1) 0 [some (va_rf (some m)), some (.int (iI v1)), some (.int (iI v2)), some (.int (iI v3))] [] (tw w0 m S) Post := by
  refine s_X2_tokenAt_0 (some m) (iI v1) (iI v2) (iI v3) ?_
  refine tw_getr rfl ?_
  refine pw_avE (l_i rfl (l_i rfl l_0)) (H.mono (t_iE (fun z2 S1 H => ?_)))
  obtain ⟨h3, h4, H⟩ := H
  refine tw_aldi (k := 9) (t := ((86 + (20 * z2)) + v3)) rfl (iI_addE (iI_addE rfl (iI_mulE rfl rfl)) rfl) h3 h4 ?_
  exact c_pi rfl H
theorem t_X2_tokensOf_0 {E : pw_E} {d : Nat} {w0 : pw_W} {m : Nat} {S : tw_S} {Post : pw_R → pw_W → Prop} (hm : pw_base E ≤ m) (v1 : Int) (H : pw_Wp E m_X2_tokensOf (d + 1) 4 [some (va_rf (some m)), some (.int (iI v1)), some (.int (iI 0)), some (.int (iI 0))] [] (tw w0 m S) Post) : pw_Wp E m_X2_tokensOf (d + 1) 0 [some (va_rf (some m)), some (.int (iI v1)), none, none] [] (tw w0 m S) Post := by
  refine s_X2_tokensOf_0 (some m) (iI v1) ?_
  exact pw_eqL (g_k (g_i rfl (g_i rfl (g_i rfl g_0)))) H
theorem t_X2_tokensOf_4 {E : pw_E} {d : Nat} {w0 : pw_W} {m : Nat} {S : tw_S} {Post : pw_R → pw_W → Prop} (hm : pw_base E ≤ m) (v1 : Int) (v2 : Int) (v3 : Int) (H : (rI (S.2.2 9 5) ∧ rI v3 ∧ if (S.2.2 9 5) ≤ v3 then Post (.inl (some (.int (iI v2)))) (tw w0 m S) else ((0 : Int) ≤ (1206 + v3) ∧ (1206 + v3) < 1526 ∧ (rI (S.2.2 9 (Int.toNat (1206 + v3))) ∧ rI v1 ∧ if (S.2.2 9 (Int.toNat (1206 + v3))) = v1 then pw_Wp E m_X2_tokensOf (d + 1) 4 [some (va_rf (some m)), some (.int (iI v1)), some (.int (iI (v2 + 1))), some (.int (iI (v3 + 1)))] [] (tw w0 m S) Post else pw_Wp E m_X2_tokensOf (d + 1) 4 [some (va_rf (some m)), some (.int (iI v1)), some (.int (iI (v2 + 0))), some (.int (iI (v3 + 1)))] [] (tw w0 m S) Post)))) : pw_Wp E m_X2_tokensOf (d + 1) 4 [some (va_rf (some m)), some (.int (iI v1)), some (.int (iI v2)), some (.int (iI v3))] [] (tw w0 m S) Post := by
  refine s_X2_tokensOf_4 (some m) (iI v1) (iI v2) (iI v3) ?_
  refine tw_getr rfl ?_
  refine tw_aldi (k := 9) (t := 5) rfl rfl (by decide) (by decide) ?_
  obtain ⟨h7, H⟩ := H
  obtain ⟨h8, H⟩ := H
  refine f_leE (s := (S.2.2 9 5)) (t := v3) rfl rfl h7 h8 H (fun H => ?_) (fun H => ?_)
  · exact c_pi rfl H
  · refine tw_getr rfl ?_
    obtain ⟨h3, h4, H⟩ := H
    refine tw_aldi (k := 9) (t := (1206 + v3)) rfl (iI_addE rfl rfl) h3 h4 ?_
    obtain ⟨h5, H⟩ := H
    obtain ⟨h6, H⟩ := H
    refine f_eqE (s := (S.2.2 9 (Int.toNat (1206 + v3)))) (t := v1) rfl rfl h5 h6 H (fun H => ?_) (fun H => ?_)
    · exact pw_eqL (g_k (g_i rfl (g_i (iI_addE rfl rfl) (g_i (iI_addE rfl rfl) g_0)))) H
    · exact pw_eqL (g_k (g_i rfl (g_i (iI_addE rfl rfl) (g_i (iI_addE rfl rfl) g_0)))) H
theorem t_X2_turned_0 {E : pw_E} {d : Nat} {w0 : pw_W} {m : Nat} {S : tw_S} {Post : pw_R → pw_W → Prop} (hm : pw_base E ≤ m) (v1 : Int) (v2 : Int) (H : pw_Wp E m_X2_turned (d + 1) 5 [some (va_rf (some m)), some (.int (iI v1)), some (.int (iI v2)), some (.int (iI 0)), some (.int (iI 0)), none, none, none] [] (tw w0 m S) Post) : pw_Wp E m_X2_turned (d + 1) 0 [some (va_rf (some m)), some (.int (iI v1)), some (.int (iI v2)), none, none, none, none, none] [] (tw w0 m S) Post := by
  refine s_X2_turned_0 (some m) (iI v1) (iI v2) ?_
  exact pw_eqL (g_k (g_i rfl (g_i rfl (g_i rfl (g_i rfl (g_k (g_k (g_k g_0)))))))) H
theorem t_X2_turned_5 {E : pw_E} {d : Nat} {w0 : pw_W} {m : Nat} {S : tw_S} {Post : pw_R → pw_W → Prop} (hm : pw_base E ≤ m) (v1 : Int) (v2 : Int) (v3 : Int) (v4 : Int) (H : (rI v2 ∧ if v2 ≤ 0 then Post (.inl (some (.int (iI v3)))) (tw w0 m S) else pw_Cl E m_X2_longOf d [va_rf (some m), .int (iI v1), .int (iI (v2 - 1))] (tw w0 m S) (c_i (t_i w0 m (fun z2 S1 => (rI z2 ∧ rI v4 ∧ if z2 ≤ v4 then Post (.inl (some (.int (iI v3)))) (tw w0 m S1) else pw_Wp E m_X2_turned (d + 1) 25 [some (va_rf (some m)), some (.int (iI v1)), some (.int (iI v2)), some (.int (iI v3)), some (.int (iI v4)), some (.int (iI 0)), none, none] [] (tw w0 m S1) Post)))))) : pw_Wp E m_X2_turned (d + 1) 5 [some (va_rf (some m)), some (.int (iI v1)), some (.int (iI v2)), some (.int (iI v3)), some (.int (iI v4)), none, none, none] [] (tw w0 m S) Post := by
  refine s_X2_turned_5 (some m) (iI v1) (iI v2) (iI v3) (iI v4) ?_
  obtain ⟨h5, H⟩ := H
  refine f_leE (s := v2) (t := 0) rfl rfl h5 (by constructor <;> decide) H (fun H => ?_) (fun H => ?_)
  · exact c_pi rfl H
  · refine tw_V ?_
    refine pw_avE (l_k (l_i rfl (l_i (iI_subE rfl rfl) l_0))) (H.mono (t_iE (fun z2 S1 H => ?_)))
    obtain ⟨h3, H⟩ := H
    obtain ⟨h4, H⟩ := H
    refine f_leE (s := z2) (t := v4) rfl rfl h3 h4 H (fun H => ?_) (fun H => ?_)
    · exact c_pi rfl H
    · exact pw_eqL (g_k (g_i rfl (g_i rfl (g_i rfl (g_i rfl (g_i rfl (g_k (g_k g_0)))))))) H
theorem t_X2_turned_25 {E : pw_E} {d : Nat} {w0 : pw_W} {m : Nat} {S : tw_S} {Post : pw_R → pw_W → Prop} (hm : pw_base E ≤ m) (v1 : Int) (v2 : Int) (v3 : Int) (v4 : Int) (v5 : Int) (H : (rI v4 ∧ rI v5 ∧ if v4 ≤ v5 then pw_Wp E m_X2_turned (d + 1) 5 [some (va_rf (some m)), some (.int (iI v1)), some (.int (iI v2)), some (.int (iI v3)), some (.int (iI (v4 + 1))), none, none, none] [] (tw w0 m S) Post else pw_Cl E m_X2_tokenAt d [va_rf (some m), .int (iI v1), .int (iI (v2 - 1)), .int (iI v5)] (tw w0 m S) (c_i (t_i w0 m (fun z2 S1 => pw_Cl E m_X2_placeOf d [va_rf (some m), .int (iI v1), .int (iI v2), .int (iI z2)] (tw w0 m S1) (c_i (t_i w0 m (fun z4 S3 => pw_Cl E m_X2_tokenAt d [va_rf (some m), .int (iI v1), .int (iI (v2 - 1)), .int (iI v4)] (tw w0 m S3) (c_i (t_i w0 m (fun z6 S5 => pw_Cl E m_X2_placeOf d [va_rf (some m), .int (iI v1), .int (iI v2), .int (iI z6)] (tw w0 m S5) (c_i (t_i w0 m (fun z8 S7 => (rI z4 ∧ if z4 = (-1) then pw_Wp E m_X2_turned (d + 1) 25 [some (va_rf (some m)), some (.int (iI v1)), some (.int (iI v2)), some (.int (iI (v3 + 0))), some (.int (iI v4)), some (.int (iI (v5 + 1))), none, none] [] (tw w0 m S7) Post else (rI z8 ∧ if z8 = (-1) then pw_Wp E m_X2_turned (d + 1) 25 [some (va_rf (some m)), some (.int (iI v1)), some (.int (iI v2)), some (.int (iI (v3 + 0))), some (.int (iI v4)), some (.int (iI (v5 + 1))), none, none] [] (tw w0 m S7) Post else (rI z4 ∧ rI z8 ∧ if z4 ≤ z8 then pw_Wp E m_X2_turned (d + 1) 25 [some (va_rf (some m)), some (.int (iI v1)), some (.int (iI v2)), some (.int (iI (v3 + 0))), some (.int (iI v4)), some (.int (iI (v5 + 1))), none, none] [] (tw w0 m S7) Post else pw_Wp E m_X2_turned (d + 1) 25 [some (va_rf (some m)), some (.int (iI v1)), some (.int (iI v2)), some (.int (iI (v3 + 1))), some (.int (iI v4)), some (.int (iI (v5 + 1))), none, none] [] (tw w0 m S7) Post))))))))))))))))) : pw_Wp E m_X2_turned (d + 1) 25 [some (va_rf (some m)), some (.int (iI v1)), some (.int (iI v2)), some (.int (iI v3)), some (.int (iI v4)), some (.int (iI v5)), none, none] [] (tw w0 m S) Post := by
  refine s_X2_turned_25 (some m) (iI v1) (iI v2) (iI v3) (iI v4) (iI v5) ?_
  obtain ⟨h13, H⟩ := H
  obtain ⟨h14, H⟩ := H
  refine f_leE (s := v4) (t := v5) rfl rfl h13 h14 H (fun H => ?_) (fun H => ?_)
  · exact pw_eqL (g_k (g_i rfl (g_i rfl (g_i rfl (g_i (iI_addE rfl rfl) (g_k (g_k (g_k g_0)))))))) H
  · refine tw_V ?_
    refine pw_avE (l_k (l_i rfl (l_i (iI_subE rfl rfl) (l_i rfl l_0)))) (H.mono (t_iE (fun z2 S1 H => ?_)))
    refine tw_V ?_
    refine pw_avE (l_k (l_i rfl (l_i rfl (l_i rfl l_0)))) (H.mono (t_iE (fun z4 S3 H => ?_)))
    refine tw_V ?_
    refine pw_avE (l_k (l_i rfl (l_i (iI_subE rfl rfl) (l_i rfl l_0)))) (H.mono (t_iE (fun z6 S5 H => ?_)))
    refine tw_V ?_
    refine pw_avE (l_k (l_i rfl (l_i rfl (l_i rfl l_0)))) (H.mono (t_iE (fun z8 S7 H => ?_)))
    obtain ⟨h12, H⟩ := H
    refine f_eqE (s := z4) (t := (-1)) rfl rfl h12 (by constructor <;> decide) H (fun H => ?_) (fun H => ?_)
    · exact pw_eqL (g_k (g_i rfl (g_i rfl (g_i (iI_addE rfl rfl) (g_i rfl (g_i (iI_addE rfl rfl) (g_k (g_k g_0)))))))) H
    · obtain ⟨h11, H⟩ := H
      refine f_eqE (s := z8) (t := (-1)) rfl rfl h11 (by constructor <;> decide) H (fun H => ?_) (fun H => ?_)
      · exact pw_eqL (g_k (g_i rfl (g_i rfl (g_i (iI_addE rfl rfl) (g_i rfl (g_i (iI_addE rfl rfl) (g_k (g_k g_0)))))))) H
      · obtain ⟨h9, H⟩ := H
        obtain ⟨h10, H⟩ := H
        refine f_leE (s := z4) (t := z8) rfl rfl h9 h10 H (fun H => ?_) (fun H => ?_)
        · exact pw_eqL (g_k (g_i rfl (g_i rfl (g_i (iI_addE rfl rfl) (g_i rfl (g_i (iI_addE rfl rfl) (g_k (g_k g_0)))))))) H
        · exact pw_eqL (g_k (g_i rfl (g_i rfl (g_i (iI_addE rfl rfl) (g_i rfl (g_i (iI_addE rfl rfl) (g_k (g_k g_0)))))))) H
theorem t_X2_twins_0 {E : pw_E} {d : Nat} {w0 : pw_W} {m : Nat} {S : tw_S} {Post : pw_R → pw_W → Prop} (hm : pw_base E ≤ m)  (H : pw_Wp E m_X2_twins (d + 1) 4 [some (va_rf (some m)), some (.int (iI 0)), some (.int (iI 0)), none, none] [] (tw w0 m S) Post) : pw_Wp E m_X2_twins (d + 1) 0 [some (va_rf (some m)), none, none, none, none] [] (tw w0 m S) Post := by
  refine s_X2_twins_0 (some m) ?_
  exact pw_eqL (g_k (g_i rfl (g_i rfl (g_k (g_k g_0))))) H
theorem t_X2_twins_4 {E : pw_E} {d : Nat} {w0 : pw_W} {m : Nat} {S : tw_S} {Post : pw_R → pw_W → Prop} (hm : pw_base E ≤ m) (v1 : Int) (v2 : Int) (H : (rI v2 ∧ if (40 : Int) ≤ v2 then Post (.inl (some (.int (iI v1)))) (tw w0 m S) else pw_Wp E m_X2_twins (d + 1) 12 [some (va_rf (some m)), some (.int (iI v1)), some (.int (iI v2)), some (.int (iI 0)), none] [] (tw w0 m S) Post)) : pw_Wp E m_X2_twins (d + 1) 4 [some (va_rf (some m)), some (.int (iI v1)), some (.int (iI v2)), none, none] [] (tw w0 m S) Post := by
  refine s_X2_twins_4 (some m) (iI v1) (iI v2) ?_
  obtain ⟨h1, H⟩ := H
  refine f_leE (s := 40) (t := v2) rfl rfl (by constructor <;> decide) h1 H (fun H => ?_) (fun H => ?_)
  · exact c_pi rfl H
  · exact pw_eqL (g_k (g_i rfl (g_i rfl (g_i rfl (g_k g_0))))) H
theorem t_X2_twins_12 {E : pw_E} {d : Nat} {w0 : pw_W} {m : Nat} {S : tw_S} {Post : pw_R → pw_W → Prop} (hm : pw_base E ≤ m) (v1 : Int) (v2 : Int) (v3 : Int) (H : (rI v2 ∧ rI v3 ∧ if v2 ≤ v3 then pw_Wp E m_X2_twins (d + 1) 4 [some (va_rf (some m)), some (.int (iI v1)), some (.int (iI (v2 + 1))), none, none] [] (tw w0 m S) Post else pw_Cl E m_X2_isVersion d [va_rf (some m), .int (iI (Int32.toInt ((iI v2) / 10))), .int (iI (Int32.toInt ((iI v2) - (iI v2) / 10 * 10)))] (tw w0 m S) (c_z (t_b w0 m (fun b2 S1 => (if b2 = true then pw_Cl E m_X2_isVersion d [va_rf (some m), .int (iI (Int32.toInt ((iI v3) / 10))), .int (iI (Int32.toInt ((iI v3) - (iI v3) / 10 * 10)))] (tw w0 m S1) (c_z (t_b w0 m (fun b4 S3 => (if b4 = true then pw_Cl E m_X2_areAlike d [va_rf (some m), .int (iI (Int32.toInt ((iI v2) / 10))), .int (iI (Int32.toInt ((iI v2) - (iI v2) / 10 * 10))), .int (iI (Int32.toInt ((iI v3) / 10))), .int (iI (Int32.toInt ((iI v3) - (iI v3) / 10 * 10)))] (tw w0 m S3) (c_z (t_b w0 m (fun b6 S5 => (if b6 = true then pw_Wp E m_X2_twins (d + 1) 12 [some (va_rf (some m)), some (.int (iI (v1 + 1))), some (.int (iI v2)), some (.int (iI (v3 + 1))), none] [] (tw w0 m S5) Post else pw_Wp E m_X2_twins (d + 1) 12 [some (va_rf (some m)), some (.int (iI (v1 + 0))), some (.int (iI v2)), some (.int (iI (v3 + 1))), none] [] (tw w0 m S5) Post)))) else pw_Wp E m_X2_twins (d + 1) 12 [some (va_rf (some m)), some (.int (iI (v1 + 0))), some (.int (iI v2)), some (.int (iI (v3 + 1))), none] [] (tw w0 m S3) Post)))) else pw_Wp E m_X2_twins (d + 1) 12 [some (va_rf (some m)), some (.int (iI (v1 + 0))), some (.int (iI v2)), some (.int (iI (v3 + 1))), none] [] (tw w0 m S1) Post)))))) : pw_Wp E m_X2_twins (d + 1) 12 [some (va_rf (some m)), some (.int (iI v1)), some (.int (iI v2)), some (.int (iI v3)), none] [] (tw w0 m S) Post := by
  refine s_X2_twins_12 (some m) (iI v1) (iI v2) (iI v3) ?_
  obtain ⟨h7, H⟩ := H
  obtain ⟨h8, H⟩ := H
  refine f_leE (s := v2) (t := v3) rfl rfl h7 h8 H (fun H => ?_) (fun H => ?_)
  · exact pw_eqL (g_k (g_i rfl (g_i (iI_addE rfl rfl) (g_k (g_k g_0))))) H
  · refine tw_V ?_
    refine pw_avE (l_k (l_i (iI_oE _) (l_i (iI_oE _) l_0))) (H.mono (t_bE (fun b2 S1 H => ?_)))
    refine f_bE H (fun H => ?_) (fun H => ?_)
    · exact pw_eqL (g_k (g_i (iI_addE rfl rfl) (g_i rfl (g_i (iI_addE rfl rfl) (g_k g_0))))) H
    · refine tw_V ?_
      refine pw_avE (l_k (l_i (iI_oE _) (l_i (iI_oE _) l_0))) (H.mono (t_bE (fun b4 S3 H => ?_)))
      refine f_bE H (fun H => ?_) (fun H => ?_)
      · exact pw_eqL (g_k (g_i (iI_addE rfl rfl) (g_i rfl (g_i (iI_addE rfl rfl) (g_k g_0))))) H
      · refine tw_V ?_
        refine pw_avE (l_k (l_i (iI_oE _) (l_i (iI_oE _) (l_i (iI_oE _) (l_i (iI_oE _) l_0))))) (H.mono (t_bE (fun b6 S5 H => ?_)))
        refine f_bE H (fun H => ?_) (fun H => ?_)
        · exact pw_eqL (g_k (g_i (iI_addE rfl rfl) (g_i rfl (g_i (iI_addE rfl rfl) (g_k g_0))))) H
        · exact pw_eqL (g_k (g_i (iI_addE rfl rfl) (g_i rfl (g_i (iI_addE rfl rfl) (g_k g_0))))) H
theorem t_X2_version_0 {E : pw_E} {d : Nat} {w0 : pw_W} {m : Nat} {S : tw_S} {Post : pw_R → pw_W → Prop} (hm : pw_base E ≤ m) (v1 : Int) (v2 : Int) (v3 : Int) (v4 : Int) (H : pw_Cl E m_X2_hand d [va_rf (some m), .int (iI v1)] (tw w0 m (tw_sf S 0 0)) (c_z (t_b w0 m (fun b2 S1 => (if b2 = true then pw_Cl E m_X2_isVersion d [va_rf (some m), .int (iI v2), .int (iI v3)] (tw w0 m S1) (c_z (t_b w0 m (fun b4 S3 => (if b4 = true then (rI v4 ∧ if v4 < 10 then (rI v4 ∧ if v4 = 0 then pw_Cl E m_X2_longOf d [va_rf (some m), .int (iI v2), .int (iI v3)] (tw w0 m S3) (c_i (t_i w0 m (fun z6 S5 => Post (.inl (some (.int (iI z6)))) (tw w0 m S5)))) else (rI v4 ∧ if v4 = 1 then pw_Cl E m_X2_at d [.int (iI v2), .int (iI v3)] (tw w0 m S3) (c_i (t_i w0 m (fun z8 S7 => ((0 : Int) ≤ (6 + z8) ∧ (6 + z8) < 1526 ∧ Post (.inl (some (.int (iI (S7.2.2 9 (Int.toNat (6 + z8))))))) (tw w0 m S7))))) else (rI v4 ∧ if v4 = 2 then pw_Cl E m_X2_fresh d [va_rf (some m), .int (iI v2), .int (iI v3)] (tw w0 m S3) (c_i (t_i w0 m (fun z12 S11 => Post (.inl (some (.int (iI z12)))) (tw w0 m S11)))) else (rI v4 ∧ if v4 = 3 then pw_Cl E m_X2_lost d [va_rf (some m), .int (iI v2), .int (iI v3)] (tw w0 m S3) (c_i (t_i w0 m (fun z14 S13 => Post (.inl (some (.int (iI z14)))) (tw w0 m S13)))) else (rI v4 ∧ if v4 = 4 then pw_Cl E m_X2_turned d [va_rf (some m), .int (iI v2), .int (iI v3)] (tw w0 m S3) (c_i (t_i w0 m (fun z16 S15 => Post (.inl (some (.int (iI z16)))) (tw w0 m S15)))) else (rI v4 ∧ if v4 = 5 then pw_Cl E m_X2_oldest d [va_rf (some m), .int (iI v2), .int (iI v3)] (tw w0 m S3) (c_i (t_i w0 m (fun z18 S17 => Post (.inl (some (.int (iI z18)))) (tw w0 m S17)))) else Post (.inl (some (.int (iI (-1))))) (tw w0 m S3))))))) else pw_Cl E m_X2_longOf d [va_rf (some m), .int (iI v2), .int (iI v3)] (tw w0 m S3) (c_i (t_i w0 m (fun z26 S25 => (rI z26 ∧ rI (v4 - 10) ∧ if z26 ≤ (v4 - 10) then Post (.inl (some (.int (iI (-1))))) (tw w0 m S25) else pw_Cl E m_X2_wordAt d [va_rf (some m), .int (iI v2), .int (iI v3), .int (iI (v4 - 10))] (tw w0 m S25) (c_i (t_i w0 m (fun z28 S27 => Post (.inl (some (.int (iI z28)))) (tw w0 m S27))))))))) else Post (.inl (some (.int (iI (-1))))) (tw w0 m S3))))) else Post (.inl (some (.int (iI (-1))))) (tw w0 m S1)))))) : pw_Wp E m_X2_version (d + 1) 0 [some (va_rf (some m)), some (.int (iI v1)), some (.int (iI v2)), some (.int (iI v3)), some (.int (iI v4))] [] (tw w0 m S) Post := by
  refine s_X2_version_0 (some m) (iI v1) (iI v2) (iI v3) (iI v4) ?_
  refine tw_puti (x := 0) hm rfl rfl ?_
  refine tw_V ?_
  refine pw_avE (l_k (l_i rfl l_0)) (H.mono (t_bE (fun b2 S1 H => ?_)))
  refine f_bE H (fun H => ?_) (fun H => ?_)
  · exact c_pi rfl H
  · refine tw_V ?_
    refine pw_avE (l_k (l_i rfl (l_i rfl l_0))) (H.mono (t_bE (fun b4 S3 H => ?_)))
    refine f_bE H (fun H => ?_) (fun H => ?_)
    · exact c_pi rfl H
    · obtain ⟨h31, H⟩ := H
      refine f_ltE (s := v4) (t := 10) rfl rfl h31 (by constructor <;> decide) H (fun H => ?_) (fun H => ?_)
      · obtain ⟨h24, H⟩ := H
        refine f_eqE (s := v4) (t := 0) rfl rfl h24 (by constructor <;> decide) H (fun H => ?_) (fun H => ?_)
        · refine tw_V ?_
          refine pw_avE (l_k (l_i rfl (l_i rfl l_0))) (H.mono (t_iE (fun z6 S5 H => ?_)))
          exact c_pi rfl H
        · obtain ⟨h23, H⟩ := H
          refine f_eqE (s := v4) (t := 1) rfl rfl h23 (by constructor <;> decide) H (fun H => ?_) (fun H => ?_)
          · refine tw_getr rfl ?_
            refine pw_avE (l_i rfl (l_i rfl l_0)) (H.mono (t_iE (fun z8 S7 H => ?_)))
            obtain ⟨h9, h10, H⟩ := H
            refine tw_aldi (k := 9) (t := (6 + z8)) rfl (iI_addE rfl rfl) h9 h10 ?_
            exact c_pi rfl H
          · obtain ⟨h22, H⟩ := H
            refine f_eqE (s := v4) (t := 2) rfl rfl h22 (by constructor <;> decide) H (fun H => ?_) (fun H => ?_)
            · refine tw_V ?_
              refine pw_avE (l_k (l_i rfl (l_i rfl l_0))) (H.mono (t_iE (fun z12 S11 H => ?_)))
              exact c_pi rfl H
            · obtain ⟨h21, H⟩ := H
              refine f_eqE (s := v4) (t := 3) rfl rfl h21 (by constructor <;> decide) H (fun H => ?_) (fun H => ?_)
              · refine tw_V ?_
                refine pw_avE (l_k (l_i rfl (l_i rfl l_0))) (H.mono (t_iE (fun z14 S13 H => ?_)))
                exact c_pi rfl H
              · obtain ⟨h20, H⟩ := H
                refine f_eqE (s := v4) (t := 4) rfl rfl h20 (by constructor <;> decide) H (fun H => ?_) (fun H => ?_)
                · refine tw_V ?_
                  refine pw_avE (l_k (l_i rfl (l_i rfl l_0))) (H.mono (t_iE (fun z16 S15 H => ?_)))
                  exact c_pi rfl H
                · obtain ⟨h19, H⟩ := H
                  refine f_eqE (s := v4) (t := 5) rfl rfl h19 (by constructor <;> decide) H (fun H => ?_) (fun H => ?_)
                  · refine tw_V ?_
                    refine pw_avE (l_k (l_i rfl (l_i rfl l_0))) (H.mono (t_iE (fun z18 S17 H => ?_)))
                    exact c_pi rfl H
                  · exact c_pi rfl H
      · refine tw_V ?_
        refine pw_avE (l_k (l_i rfl (l_i rfl l_0))) (H.mono (t_iE (fun z26 S25 H => ?_)))
        obtain ⟨h29, H⟩ := H
        obtain ⟨h30, H⟩ := H
        refine f_leE (s := z26) (t := (v4 - 10)) rfl (iI_subE rfl rfl) h29 h30 H (fun H => ?_) (fun H => ?_)
        · exact c_pi rfl H
        · refine tw_V ?_
          refine pw_avE (l_k (l_i rfl (l_i rfl (l_i (iI_subE rfl rfl) l_0)))) (H.mono (t_iE (fun z28 S27 H => ?_)))
          exact c_pi rfl H
theorem t_X2_versions_0 {E : pw_E} {d : Nat} {w0 : pw_W} {m : Nat} {S : tw_S} {Post : pw_R → pw_W → Prop} (hm : pw_base E ≤ m) (v1 : Int) (H : ((0 : Int) ≤ (1 + v1) ∧ (1 + v1) < 1526 ∧ Post (.inl (some (.int (iI (S.2.2 9 (Int.toNat (1 + v1))))))) (tw w0 m S))) : pw_Wp E m_X2_versions (d + 1) 0 [some (va_rf (some m)), some (.int (iI v1))] [] (tw w0 m S) Post := by
  refine s_X2_versions_0 (some m) (iI v1) ?_
  refine tw_getr rfl ?_
  obtain ⟨h1, h2, H⟩ := H
  refine tw_aldi (k := 9) (t := (1 + v1)) rfl (iI_addE rfl rfl) h1 h2 ?_
  exact c_pi rfl H
theorem t_X2_versionsAll_0 {E : pw_E} {d : Nat} {w0 : pw_W} {m : Nat} {S : tw_S} {Post : pw_R → pw_W → Prop} (hm : pw_base E ≤ m)  (H : pw_Wp E m_X2_versionsAll (d + 1) 4 [some (va_rf (some m)), some (.int (iI 0)), some (.int (iI 0))] [] (tw w0 m S) Post) : pw_Wp E m_X2_versionsAll (d + 1) 0 [some (va_rf (some m)), none, none] [] (tw w0 m S) Post := by
  refine s_X2_versionsAll_0 (some m) ?_
  exact pw_eqL (g_k (g_i rfl (g_i rfl g_0))) H
theorem t_X2_versionsAll_4 {E : pw_E} {d : Nat} {w0 : pw_W} {m : Nat} {S : tw_S} {Post : pw_R → pw_W → Prop} (hm : pw_base E ≤ m) (v1 : Int) (v2 : Int) (H : (rI (S.2.2 9 0) ∧ rI v2 ∧ if (S.2.2 9 0) ≤ v2 then Post (.inl (some (.int (iI v1)))) (tw w0 m S) else pw_Cl E m_X2_versions d [va_rf (some m), .int (iI v2)] (tw w0 m S) (c_i (t_i w0 m (fun z4 S3 => pw_Wp E m_X2_versionsAll (d + 1) 4 [some (va_rf (some m)), some (.int (iI (v1 + z4))), some (.int (iI (v2 + 1)))] [] (tw w0 m S3) Post))))) : pw_Wp E m_X2_versionsAll (d + 1) 4 [some (va_rf (some m)), some (.int (iI v1)), some (.int (iI v2))] [] (tw w0 m S) Post := by
  refine s_X2_versionsAll_4 (some m) (iI v1) (iI v2) ?_
  refine tw_getr rfl ?_
  refine tw_aldi (k := 9) (t := 0) rfl rfl (by decide) (by decide) ?_
  obtain ⟨h5, H⟩ := H
  obtain ⟨h6, H⟩ := H
  refine f_leE (s := (S.2.2 9 0)) (t := v2) rfl rfl h5 h6 H (fun H => ?_) (fun H => ?_)
  · exact c_pi rfl H
  · refine tw_V ?_
    refine pw_avE (l_k (l_i rfl l_0)) (H.mono (t_iE (fun z4 S3 H => ?_)))
    exact pw_eqL (g_k (g_i (iI_addE rfl rfl) (g_i (iI_addE rfl rfl) g_0))) H
theorem t_X2_versionsBy_0 {E : pw_E} {d : Nat} {w0 : pw_W} {m : Nat} {S : tw_S} {Post : pw_R → pw_W → Prop} (hm : pw_base E ≤ m) (v1 : Int) (H : pw_Wp E m_X2_versionsBy (d + 1) 4 [some (va_rf (some m)), some (.int (iI v1)), some (.int (iI 0)), some (.int (iI 0))] [] (tw w0 m S) Post) : pw_Wp E m_X2_versionsBy (d + 1) 0 [some (va_rf (some m)), some (.int (iI v1)), none, none] [] (tw w0 m S) Post := by
  refine s_X2_versionsBy_0 (some m) (iI v1) ?_
  exact pw_eqL (g_k (g_i rfl (g_i rfl (g_i rfl g_0)))) H
theorem t_X2_versionsBy_4 {E : pw_E} {d : Nat} {w0 : pw_W} {m : Nat} {S : tw_S} {Post : pw_R → pw_W → Prop} (hm : pw_base E ≤ m) (v1 : Int) (v2 : Int) (v3 : Int) (H : (rI (S.2.2 9 0) ∧ rI v3 ∧ if (S.2.2 9 0) ≤ v3 then Post (.inl (some (.int (iI v2)))) (tw w0 m S) else ((0 : Int) ≤ ((4 * v1) + v3) ∧ ((4 * v1) + v3) < 32 ∧ pw_Cl E m_X2_ones d [.int (iI (S.2.2 14 (Int.toNat ((4 * v1) + v3))))] (tw w0 m S) (c_i (t_i w0 m (fun z6 S5 => pw_Wp E m_X2_versionsBy (d + 1) 4 [some (va_rf (some m)), some (.int (iI v1)), some (.int (iI (v2 + z6))), some (.int (iI (v3 + 1)))] [] (tw w0 m S5) Post)))))) : pw_Wp E m_X2_versionsBy (d + 1) 4 [some (va_rf (some m)), some (.int (iI v1)), some (.int (iI v2)), some (.int (iI v3))] [] (tw w0 m S) Post := by
  refine s_X2_versionsBy_4 (some m) (iI v1) (iI v2) (iI v3) ?_
  refine tw_getr rfl ?_
  refine tw_aldi (k := 9) (t := 0) rfl rfl (by decide) (by decide) ?_
  obtain ⟨h7, H⟩ := H
  obtain ⟨h8, H⟩ := H
  refine f_leE (s := (S.2.2 9 0)) (t := v3) rfl rfl h7 h8 H (fun H => ?_) (fun H => ?_)
  · exact c_pi rfl H
  · refine tw_getr rfl ?_
    obtain ⟨h3, h4, H⟩ := H
    refine tw_aldi (k := 14) (t := ((4 * v1) + v3)) rfl (iI_addE (iI_mulE rfl rfl) rfl) h3 h4 ?_
    refine pw_avE (l_i rfl l_0) (H.mono (t_iE (fun z6 S5 H => ?_)))
    exact pw_eqL (g_k (g_i rfl (g_i (iI_addE rfl rfl) (g_i (iI_addE rfl rfl) g_0)))) H
theorem t_X2_whereIs_0 {E : pw_E} {d : Nat} {w0 : pw_W} {m : Nat} {S : tw_S} {Post : pw_R → pw_W → Prop} (hm : pw_base E ≤ m) (v1 : Int) (H : ((0 : Int) ≤ (1206 + v1) ∧ (1206 + v1) < 1526 ∧ pw_Wp E m_X2_whereIs (d + 1) 16 [some (va_rf (some m)), some (.int (iI v1)), some (.int (iI (S.2.2 9 (Int.toNat (1206 + v1))))), some (.int (iI 0)), some (.int (iI 0))] [] (tw w0 m S) Post)) : pw_Wp E m_X2_whereIs (d + 1) 0 [some (va_rf (some m)), some (.int (iI v1)), none, none, none] [] (tw w0 m S) Post := by
  refine s_X2_whereIs_0 (some m) (iI v1) ?_
  refine tw_getr rfl ?_
  obtain ⟨h1, h2, H⟩ := H
  refine tw_aldi (k := 9) (t := (1206 + v1)) rfl (iI_addE rfl rfl) h1 h2 ?_
  exact pw_eqL (g_k (g_i rfl (g_i rfl (g_i rfl (g_i rfl g_0))))) H
theorem t_X2_whereIs_16 {E : pw_E} {d : Nat} {w0 : pw_W} {m : Nat} {S : tw_S} {Post : pw_R → pw_W → Prop} (hm : pw_base E ≤ m) (v1 : Int) (v2 : Int) (v3 : Int) (v4 : Int) (H : pw_Cl E m_X2_versions d [va_rf (some m), .int (iI v2)] (tw w0 m S) (c_i (t_i w0 m (fun z2 S1 => (rI z2 ∧ rI v4 ∧ if z2 ≤ v4 then Post (.inl (some (.int (iI v3)))) (tw w0 m S1) else pw_Cl E m_X2_placeOf d [va_rf (some m), .int (iI v2), .int (iI v4), .int (iI v1)] (tw w0 m S1) (c_i (t_i w0 m (fun z4 S3 => (rI z4 ∧ if z4 = (-1) then pw_Wp E m_X2_whereIs (d + 1) 16 [some (va_rf (some m)), some (.int (iI v1)), some (.int (iI v2)), some (.int (iI (Int32.toInt ((iI v3) ||| 0)))), some (.int (iI (v4 + 1)))] [] (tw w0 m S3) Post else pw_Wp E m_X2_whereIs (d + 1) 16 [some (va_rf (some m)), some (.int (iI v1)), some (.int (iI v2)), some (.int (iI (Int32.toInt ((iI v3) ||| (1 <<< ((iI v4) &&& 31)))))), some (.int (iI (v4 + 1)))] [] (tw w0 m S3) Post))))))))) : pw_Wp E m_X2_whereIs (d + 1) 16 [some (va_rf (some m)), some (.int (iI v1)), some (.int (iI v2)), some (.int (iI v3)), some (.int (iI v4))] [] (tw w0 m S) Post := by
  refine s_X2_whereIs_16 (some m) (iI v1) (iI v2) (iI v3) (iI v4) ?_
  refine tw_V ?_
  refine pw_avE (l_k (l_i rfl l_0)) (H.mono (t_iE (fun z2 S1 H => ?_)))
  obtain ⟨h6, H⟩ := H
  obtain ⟨h7, H⟩ := H
  refine f_leE (s := z2) (t := v4) rfl rfl h6 h7 H (fun H => ?_) (fun H => ?_)
  · exact c_pi rfl H
  · refine tw_V ?_
    refine pw_avE (l_k (l_i rfl (l_i rfl (l_i rfl l_0)))) (H.mono (t_iE (fun z4 S3 H => ?_)))
    obtain ⟨h5, H⟩ := H
    refine f_eqE (s := z4) (t := (-1)) rfl rfl h5 (by constructor <;> decide) H (fun H => ?_) (fun H => ?_)
    · exact pw_eqL (g_k (g_i rfl (g_i rfl (g_i (iI_oE _) (g_i (iI_addE rfl rfl) g_0))))) H
    · exact pw_eqL (g_k (g_i rfl (g_i rfl (g_i (iI_oE _) (g_i (iI_addE rfl rfl) g_0))))) H
theorem t_X2_widened_0 {E : pw_E} {d : Nat} {w0 : pw_W} {m : Nat} {S : tw_S} {Post : pw_R → pw_W → Prop} (hm : pw_base E ≤ m) (v0 : Int) (H : pw_Wp E m_X2_widened (d + 1) 2 [none, some (.int (iI v0))] [] (tw w0 m S) Post) : pw_Wp E m_X2_widened (d + 1) 0 [some (.int (iI v0)), none] [] (tw w0 m S) Post := by
  refine s_X2_widened_0 (iI v0) ?_
  exact pw_eqL (g_k (g_i rfl g_0)) H
theorem t_X2_widened_2 {E : pw_E} {d : Nat} {w0 : pw_W} {m : Nat} {S : tw_S} {Post : pw_R → pw_W → Prop} (hm : pw_base E ≤ m) (v1 : Int) (H : (rI v1 ∧ if (19683 : Int) ≤ v1 then Post (.inl (some (.int (iI v1)))) (tw w0 m S) else pw_Wp E m_X2_widened (d + 1) 2 [none, some (.int (iI (v1 * 27)))] [] (tw w0 m S) Post)) : pw_Wp E m_X2_widened (d + 1) 2 [none, some (.int (iI v1))] [] (tw w0 m S) Post := by
  refine s_X2_widened_2 (iI v1) ?_
  obtain ⟨h1, H⟩ := H
  refine f_leE (s := 19683) (t := v1) rfl rfl (by constructor <;> decide) h1 H (fun H => ?_) (fun H => ?_)
  · exact c_pi rfl H
  · exact pw_eqL (g_k (g_i (iI_mulE rfl rfl) g_0)) H
theorem t_X2_word_0 {E : pw_E} {d : Nat} {w0 : pw_W} {m : Nat} {S : tw_S} {Post : pw_R → pw_W → Prop} (hm : pw_base E ≤ m) (v1 : Int) (v2 : Int) (v3 : Int) (H : pw_Cl E m_X2_hand d [va_rf (some m), .int (iI v1)] (tw w0 m (tw_sf S 0 0)) (c_z (t_b w0 m (fun b2 S1 => (if b2 = true then pw_Cl E m_X2_layWords d [va_rf (some m)] (tw w0 m S1) (c_v (t_u w0 m (fun S3 => pw_Cl E m_X2_in d [.int (iI v2), .int (iI 0), .int (iI ((S3.1 25) - 1))] (tw w0 m S3) (c_z (t_b w0 m (fun b5 S4 => (if b5 = true then ((0 : Int) ≤ v2 ∧ v2 < 320 ∧ pw_Cl E m_X2_ofWord d [va_rf (some m), .int (iI (S4.2.2 12 (Int.toNat v2))), .int (iI v3)] (tw w0 m S4) (c_i (t_i w0 m (fun z9 S8 => Post (.inl (some (.int (iI z9)))) (tw w0 m S8))))) else Post (.inl (some (.int (iI (-1))))) (tw w0 m S4)))))))) else Post (.inl (some (.int (iI (-1))))) (tw w0 m S1)))))) : pw_Wp E m_X2_word (d + 1) 0 [some (va_rf (some m)), some (.int (iI v1)), some (.int (iI v2)), some (.int (iI v3))] [] (tw w0 m S) Post := by
  refine s_X2_word_0 (some m) (iI v1) (iI v2) (iI v3) ?_
  refine tw_puti (x := 0) hm rfl rfl ?_
  refine tw_V ?_
  refine pw_avE (l_k (l_i rfl l_0)) (H.mono (t_bE (fun b2 S1 H => ?_)))
  refine f_bE H (fun H => ?_) (fun H => ?_)
  · exact c_pi rfl H
  · refine tw_V ?_
    refine pw_avE (l_k l_0) (H.mono (t_uE (fun S3 H => ?_)))
    refine tw_geti rfl ?_
    refine pw_avE (l_i rfl (l_i rfl (l_i (iI_subE rfl rfl) l_0))) (H.mono (t_bE (fun b5 S4 H => ?_)))
    refine f_bE H (fun H => ?_) (fun H => ?_)
    · exact c_pi rfl H
    · refine tw_getr rfl ?_
      obtain ⟨h6, h7, H⟩ := H
      refine tw_aldi (k := 12) (t := v2) rfl rfl h6 h7 ?_
      refine tw_V ?_
      refine pw_avE (l_k (l_i rfl (l_i rfl l_0))) (H.mono (t_iE (fun z9 S8 H => ?_)))
      exact c_pi rfl H
theorem t_X2_wordAt_0 {E : pw_E} {d : Nat} {w0 : pw_W} {m : Nat} {S : tw_S} {Post : pw_R → pw_W → Prop} (hm : pw_base E ≤ m) (v1 : Int) (v2 : Int) (v3 : Int) (H : pw_Cl E m_X2_tokenAt d [va_rf (some m), .int (iI v1), .int (iI v2), .int (iI v3)] (tw w0 m S) (c_i (t_i w0 m (fun z2 S1 => pw_Cl E m_X2_wordOf d [va_rf (some m), .int (iI z2)] (tw w0 m S1) (c_i (t_i w0 m (fun z4 S3 => Post (.inl (some (.int (iI z4)))) (tw w0 m S3)))))))) : pw_Wp E m_X2_wordAt (d + 1) 0 [some (va_rf (some m)), some (.int (iI v1)), some (.int (iI v2)), some (.int (iI v3))] [] (tw w0 m S) Post := by
  refine s_X2_wordAt_0 (some m) (iI v1) (iI v2) (iI v3) ?_
  refine tw_V ?_
  refine pw_avE (l_k (l_i rfl (l_i rfl (l_i rfl l_0)))) (H.mono (t_iE (fun z2 S1 H => ?_)))
  refine tw_V ?_
  refine pw_avE (l_k (l_i rfl l_0)) (H.mono (t_iE (fun z4 S3 H => ?_)))
  exact c_pi rfl H
theorem t_X2_wordOf_0 {E : pw_E} {d : Nat} {w0 : pw_W} {m : Nat} {S : tw_S} {Post : pw_R → pw_W → Prop} (hm : pw_base E ≤ m) (v1 : Int) (H : ((0 : Int) ≤ (886 + v1) ∧ (886 + v1) < 1526 ∧ Post (.inl (some (.int (iI (S.2.2 9 (Int.toNat (886 + v1))))))) (tw w0 m S))) : pw_Wp E m_X2_wordOf (d + 1) 0 [some (va_rf (some m)), some (.int (iI v1))] [] (tw w0 m S) Post := by
  refine s_X2_wordOf_0 (some m) (iI v1) ?_
  refine tw_getr rfl ?_
  obtain ⟨h1, h2, H⟩ := H
  refine tw_aldi (k := 9) (t := (886 + v1)) rfl (iI_addE rfl rfl) h1 h2 ?_
  exact c_pi rfl H
theorem t_X2_wordsOf_0 {E : pw_E} {d : Nat} {w0 : pw_W} {m : Nat} {S : tw_S} {Post : pw_R → pw_W → Prop} (hm : pw_base E ≤ m) (v1 : Int) (H : pw_Cl E m_X2_ofAsking d [va_rf (some m), .int (iI v1), .int (iI 0)] (tw w0 m S) (c_i (t_i w0 m (fun z2 S1 => (rI z2 ∧ if z2 = 0 then pw_Cl E m_X2_ofAsking d [va_rf (some m), .int (iI v1), .int (iI 1)] (tw w0 m S1) (c_i (t_i w0 m (fun z4 S3 => Post (.inl (some (.int (iI z4)))) (tw w0 m S3)))) else (rI z2 ∧ if z2 = 1 then Post (.inl (some (.int (iI 2)))) (tw w0 m S1) else (rI z2 ∧ if z2 = 2 then Post (.inl (some (.int (iI 1)))) (tw w0 m S1) else Post (.inl (some (.int (iI 0)))) (tw w0 m S1)))))))) : pw_Wp E m_X2_wordsOf (d + 1) 0 [some (va_rf (some m)), some (.int (iI v1)), none] [] (tw w0 m S) Post := by
  refine s_X2_wordsOf_0 (some m) (iI v1) ?_
  refine tw_V ?_
  refine pw_avE (l_k (l_i rfl (l_i rfl l_0))) (H.mono (t_iE (fun z2 S1 H => ?_)))
  obtain ⟨h7, H⟩ := H
  refine f_eqE (s := z2) (t := 0) rfl rfl h7 (by constructor <;> decide) H (fun H => ?_) (fun H => ?_)
  · refine tw_V ?_
    refine pw_avE (l_k (l_i rfl (l_i rfl l_0))) (H.mono (t_iE (fun z4 S3 H => ?_)))
    exact c_pi rfl H
  · obtain ⟨h6, H⟩ := H
    refine f_eqE (s := z2) (t := 1) rfl rfl h6 (by constructor <;> decide) H (fun H => ?_) (fun H => ?_)
    · exact c_pi rfl H
    · obtain ⟨h5, H⟩ := H
      refine f_eqE (s := z2) (t := 2) rfl rfl h5 (by constructor <;> decide) H (fun H => ?_) (fun H => ?_)
      · exact c_pi rfl H
      · exact c_pi rfl H
