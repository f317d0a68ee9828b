set_option maxRecDepth 100000
/-! branches -/
section
variable {E : pw_E} {M : pw_M} {d pc : Nat} {L : List (Option Value)} {st : List Value} {w : pw_W} {Post : pw_R → pw_W → Prop}
theorem r_if_eq {x : Int32} {off : Int} (hd : decode M.2.1 pc = .ok (.ifCond .eq off, 3)) (tgt : Nat) (ht : (pc : Int) + off = (tgt : Int)) (kt : x = 0 → pw_Wp E M d tgt L st w Post) (kf : ¬ x = 0 → pw_Wp E M d (pc + 3) L st w Post) : pw_Wp E M d pc L (.int x :: st) w Post := by
  by_cases h : x = 0
  · exact pw_go (fun p e R s m args below meth c H locs cells slots ls Q hC _ _ hH hL kk => lv_if_eq hC.1 hC.2.1 hd ht (fun _ => kk ls hL) (fun q => absurd h q)) (kt h)
  · exact pw_go (fun p e R s m args below meth c H locs cells slots ls Q hC _ _ hH hL kk => lv_if_eq hC.1 hC.2.1 hd ht (fun q => absurd q h) (fun _ => kk ls hL)) (kf h)
theorem r_icmp_eq {x y : Int32} {off : Int} (hd : decode M.2.1 pc = .ok (.if_icmp .eq off, 3)) (tgt : Nat) (ht : (pc : Int) + off = (tgt : Int)) (kt : x = y → pw_Wp E M d tgt L st w Post) (kf : ¬ x = y → pw_Wp E M d (pc + 3) L st w Post) : pw_Wp E M d pc L (.int y :: .int x :: st) w Post := by
  by_cases h : x = y
  · exact pw_go (fun p e R s m args below meth c H locs cells slots ls Q hC _ _ hH hL kk => lv_icmp_eq hC.1 hC.2.1 hd ht (fun _ => kk ls hL) (fun q => absurd h q)) (kt h)
  · exact pw_go (fun p e R s m args below meth c H locs cells slots ls Q hC _ _ hH hL kk => lv_icmp_eq hC.1 hC.2.1 hd ht (fun q => absurd q h) (fun _ => kk ls hL)) (kf h)
theorem r_if_ne {x : Int32} {off : Int} (hd : decode M.2.1 pc = .ok (.ifCond .ne off, 3)) (tgt : Nat) (ht : (pc : Int) + off = (tgt : Int)) (kt : ¬ x = 0 → pw_Wp E M d tgt L st w Post) (kf : x = 0 → pw_Wp E M d (pc + 3) L st w Post) : pw_Wp E M d pc L (.int x :: st) w Post := by
  by_cases h : x = 0
  · exact pw_go (fun p e R s m args below meth c H locs cells slots ls Q hC _ _ hH hL kk => lv_if_ne hC.1 hC.2.1 hd ht (fun q => absurd h q) (fun _ => kk ls hL)) (kf h)
  · exact pw_go (fun p e R s m args below meth c H locs cells slots ls Q hC _ _ hH hL kk => lv_if_ne hC.1 hC.2.1 hd ht (fun _ => kk ls hL) (fun q => absurd q h)) (kt h)
theorem r_icmp_ne {x y : Int32} {off : Int} (hd : decode M.2.1 pc = .ok (.if_icmp .ne off, 3)) (tgt : Nat) (ht : (pc : Int) + off = (tgt : Int)) (kt : ¬ x = y → pw_Wp E M d tgt L st w Post) (kf : x = y → pw_Wp E M d (pc + 3) L st w Post) : pw_Wp E M d pc L (.int y :: .int x :: st) w Post := by
  by_cases h : x = y
  · exact pw_go (fun p e R s m args below meth c H locs cells slots ls Q hC _ _ hH hL kk => lv_icmp_ne hC.1 hC.2.1 hd ht (fun q => absurd h q) (fun _ => kk ls hL)) (kf h)
  · exact pw_go (fun p e R s m args below meth c H locs cells slots ls Q hC _ _ hH hL kk => lv_icmp_ne hC.1 hC.2.1 hd ht (fun _ => kk ls hL) (fun q => absurd q h)) (kt h)
theorem r_if_lt {x : Int32} {off : Int} (hd : decode M.2.1 pc = .ok (.ifCond .lt off, 3)) (tgt : Nat) (ht : (pc : Int) + off = (tgt : Int)) (kt : x < 0 → pw_Wp E M d tgt L st w Post) (kf : ¬ x < 0 → pw_Wp E M d (pc + 3) L st w Post) : pw_Wp E M d pc L (.int x :: st) w Post := by
  by_cases h : x < 0
  · exact pw_go (fun p e R s m args below meth c H locs cells slots ls Q hC _ _ hH hL kk => lv_if_lt hC.1 hC.2.1 hd ht (fun _ => kk ls hL) (fun q => absurd h q)) (kt h)
  · exact pw_go (fun p e R s m args below meth c H locs cells slots ls Q hC _ _ hH hL kk => lv_if_lt hC.1 hC.2.1 hd ht (fun q => absurd q h) (fun _ => kk ls hL)) (kf h)
theorem r_icmp_lt {x y : Int32} {off : Int} (hd : decode M.2.1 pc = .ok (.if_icmp .lt off, 3)) (tgt : Nat) (ht : (pc : Int) + off = (tgt : Int)) (kt : x < y → pw_Wp E M d tgt L st w Post) (kf : ¬ x < y → pw_Wp E M d (pc + 3) L st w Post) : pw_Wp E M d pc L (.int y :: .int x :: st) w Post := by
  by_cases h : x < y
  · exact pw_go (fun p e R s m args below meth c H locs cells slots ls Q hC _ _ hH hL kk => lv_icmp_lt hC.1 hC.2.1 hd ht (fun _ => kk ls hL) (fun q => absurd h q)) (kt h)
  · exact pw_go (fun p e R s m args below meth c H locs cells slots ls Q hC _ _ hH hL kk => lv_icmp_lt hC.1 hC.2.1 hd ht (fun q => absurd q h) (fun _ => kk ls hL)) (kf h)
theorem r_if_ge {x : Int32} {off : Int} (hd : decode M.2.1 pc = .ok (.ifCond .ge off, 3)) (tgt : Nat) (ht : (pc : Int) + off = (tgt : Int)) (kt : 0 ≤ x → pw_Wp E M d tgt L st w Post) (kf : ¬ 0 ≤ x → pw_Wp E M d (pc + 3) L st w Post) : pw_Wp E M d pc L (.int x :: st) w Post := by
  by_cases h : 0 ≤ x
  · exact pw_go (fun p e R s m args below meth c H locs cells slots ls Q hC _ _ hH hL kk => lv_if_ge hC.1 hC.2.1 hd ht (fun _ => kk ls hL) (fun q => absurd h q)) (kt h)
  · exact pw_go (fun p e R s m args below meth c H locs cells slots ls Q hC _ _ hH hL kk => lv_if_ge hC.1 hC.2.1 hd ht (fun q => absurd q h) (fun _ => kk ls hL)) (kf h)
theorem r_icmp_ge {x y : Int32} {off : Int} (hd : decode M.2.1 pc = .ok (.if_icmp .ge off, 3)) (tgt : Nat) (ht : (pc : Int) + off = (tgt : Int)) (kt : y ≤ x → pw_Wp E M d tgt L st w Post) (kf : ¬ y ≤ x → pw_Wp E M d (pc + 3) L st w Post) : pw_Wp E M d pc L (.int y :: .int x :: st) w Post := by
  by_cases h : y ≤ x
  · exact pw_go (fun p e R s m args below meth c H locs cells slots ls Q hC _ _ hH hL kk => lv_icmp_ge hC.1 hC.2.1 hd ht (fun _ => kk ls hL) (fun q => absurd h q)) (kt h)
  · exact pw_go (fun p e R s m args below meth c H locs cells slots ls Q hC _ _ hH hL kk => lv_icmp_ge hC.1 hC.2.1 hd ht (fun q => absurd q h) (fun _ => kk ls hL)) (kf h)
theorem r_if_gt {x : Int32} {off : Int} (hd : decode M.2.1 pc = .ok (.ifCond .gt off, 3)) (tgt : Nat) (ht : (pc : Int) + off = (tgt : Int)) (kt : 0 < x → pw_Wp E M d tgt L st w Post) (kf : ¬ 0 < x → pw_Wp E M d (pc + 3) L st w Post) : pw_Wp E M d pc L (.int x :: st) w Post := by
  by_cases h : 0 < x
  · exact pw_go (fun p e R s m args below meth c H locs cells slots ls Q hC _ _ hH hL kk => lv_if_gt hC.1 hC.2.1 hd ht (fun _ => kk ls hL) (fun q => absurd h q)) (kt h)
  · exact pw_go (fun p e R s m args below meth c H locs cells slots ls Q hC _ _ hH hL kk => lv_if_gt hC.1 hC.2.1 hd ht (fun q => absurd q h) (fun _ => kk ls hL)) (kf h)
theorem r_icmp_gt {x y : Int32} {off : Int} (hd : decode M.2.1 pc = .ok (.if_icmp .gt off, 3)) (tgt : Nat) (ht : (pc : Int) + off = (tgt : Int)) (kt : y < x → pw_Wp E M d tgt L st w Post) (kf : ¬ y < x → pw_Wp E M d (pc + 3) L st w Post) : pw_Wp E M d pc L (.int y :: .int x :: st) w Post := by
  by_cases h : y < x
  · exact pw_go (fun p e R s m args below meth c H locs cells slots ls Q hC _ _ hH hL kk => lv_icmp_gt hC.1 hC.2.1 hd ht (fun _ => kk ls hL) (fun q => absurd h q)) (kt h)
  · exact pw_go (fun p e R s m args below meth c H locs cells slots ls Q hC _ _ hH hL kk => lv_icmp_gt hC.1 hC.2.1 hd ht (fun q => absurd q h) (fun _ => kk ls hL)) (kf h)
theorem r_if_le {x : Int32} {off : Int} (hd : decode M.2.1 pc = .ok (.ifCond .le off, 3)) (tgt : Nat) (ht : (pc : Int) + off = (tgt : Int)) (kt : x ≤ 0 → pw_Wp E M d tgt L st w Post) (kf : ¬ x ≤ 0 → pw_Wp E M d (pc + 3) L st w Post) : pw_Wp E M d pc L (.int x :: st) w Post := by
  by_cases h : x ≤ 0
  · exact pw_go (fun p e R s m args below meth c H locs cells slots ls Q hC _ _ hH hL kk => lv_if_le hC.1 hC.2.1 hd ht (fun _ => kk ls hL) (fun q => absurd h q)) (kt h)
  · exact pw_go (fun p e R s m args below meth c H locs cells slots ls Q hC _ _ hH hL kk => lv_if_le hC.1 hC.2.1 hd ht (fun q => absurd q h) (fun _ => kk ls hL)) (kf h)
theorem r_icmp_le {x y : Int32} {off : Int} (hd : decode M.2.1 pc = .ok (.if_icmp .le off, 3)) (tgt : Nat) (ht : (pc : Int) + off = (tgt : Int)) (kt : x ≤ y → pw_Wp E M d tgt L st w Post) (kf : ¬ x ≤ y → pw_Wp E M d (pc + 3) L st w Post) : pw_Wp E M d pc L (.int y :: .int x :: st) w Post := by
  by_cases h : x ≤ y
  · exact pw_go (fun p e R s m args below meth c H locs cells slots ls Q hC _ _ hH hL kk => lv_icmp_le hC.1 hC.2.1 hd ht (fun _ => kk ls hL) (fun q => absurd h q)) (kt h)
  · exact pw_go (fun p e R s m args below meth c H locs cells slots ls Q hC _ _ hH hL kk => lv_icmp_le hC.1 hC.2.1 hd ht (fun q => absurd q h) (fun _ => kk ls hL)) (kf h)
theorem r_acmp_eq {x y : Option Nat} {off : Int} (hd : decode M.2.1 pc = .ok (.if_acmp .eq off, 3)) (tgt : Nat) (ht : (pc : Int) + off = (tgt : Int)) (kt : x = y → pw_Wp E M d tgt L st w Post) (kf : ¬ x = y → pw_Wp E M d (pc + 3) L st w Post) : pw_Wp E M d pc L (va_rf y :: va_rf x :: st) w Post := by
  by_cases h : x = y
  · exact pw_go (fun p e R s m args below meth c H locs cells slots ls Q hC _ _ hH hL kk => lv_acmp_eq hC.1 hC.2.1 hd ht (fun _ => kk ls hL) (fun q => absurd h q)) (kt h)
  · exact pw_go (fun p e R s m args below meth c H locs cells slots ls Q hC _ _ hH hL kk => lv_acmp_eq hC.1 hC.2.1 hd ht (fun q => absurd q h) (fun _ => kk ls hL)) (kf h)
theorem r_acmp_ne {x y : Option Nat} {off : Int} (hd : decode M.2.1 pc = .ok (.if_acmp .ne off, 3)) (tgt : Nat) (ht : (pc : Int) + off = (tgt : Int)) (kt : ¬ x = y → pw_Wp E M d tgt L st w Post) (kf : x = y → pw_Wp E M d (pc + 3) L st w Post) : pw_Wp E M d pc L (va_rf y :: va_rf x :: st) w Post := by
  by_cases h : x = y
  · exact pw_go (fun p e R s m args below meth c H locs cells slots ls Q hC _ _ hH hL kk => lv_acmp_ne hC.1 hC.2.1 hd ht (fun q => absurd h q) (fun _ => kk ls hL)) (kf h)
  · exact pw_go (fun p e R s m args below meth c H locs cells slots ls Q hC _ _ hH hL kk => lv_acmp_ne hC.1 hC.2.1 hd ht (fun _ => kk ls hL) (fun q => absurd q h)) (kt h)
theorem r_ifnull {x : Option Nat} {off : Int} (hd : decode M.2.1 pc = .ok (.ifnull off, 3)) (tgt : Nat) (ht : (pc : Int) + off = (tgt : Int)) (kt : x = none → pw_Wp E M d tgt L st w Post) (kf : ¬ x = none → pw_Wp E M d (pc + 3) L st w Post) : pw_Wp E M d pc L (va_rf x :: st) w Post := by
  cases x with
  | none => exact pw_go (fun p e R s m args below meth c H locs cells slots ls Q hC _ _ hH hL kk => lv_ifnullN hC.1 hC.2.1 hd ht (kk ls hL)) (kt rfl)
  | some a => exact pw_go (fun p e R s m args below meth c H locs cells slots ls Q hC _ _ hH hL kk => lv_ifnull hC.1 hC.2.1 hd (kk ls hL)) (kf (fun q => by cases q))
theorem r_ifnonnull {x : Option Nat} {off : Int} (hd : decode M.2.1 pc = .ok (.ifnonnull off, 3)) (tgt : Nat) (ht : (pc : Int) + off = (tgt : Int)) (kt : ¬ x = none → pw_Wp E M d tgt L st w Post) (kf : x = none → pw_Wp E M d (pc + 3) L st w Post) : pw_Wp E M d pc L (va_rf x :: st) w Post := by
  cases x with
  | none => exact pw_go (fun p e R s m args below meth c H locs cells slots ls Q hC _ _ hH hL kk => lv_ifnonnullN hC.1 hC.2.1 hd (kk ls hL)) (kf rfl)
  | some a => exact pw_go (fun p e R s m args below meth c H locs cells slots ls Q hC _ _ hH hL kk => lv_ifnonnull hC.1 hC.2.1 hd ht (kk ls hL)) (kt (fun q => by cases q))
theorem r_tableOut {x : Int32} {dflt lo hi : Int} {offs : Array Int} {len : Nat} (hd : decode M.2.1 pc = .ok (.tableswitch dflt lo hi offs, len)) (h : x.toInt < lo ∨ hi < x.toInt) (tgt : Nat) (ht : (pc : Int) + dflt = (tgt : Int)) (k : pw_Wp E M d tgt L st w Post) : pw_Wp E M d pc L (.int x :: st) w Post :=
  pw_go (fun p e R s m args below meth c H locs cells slots ls Q hC _ _ hH hL kk => lv_tableOut hC.1 hC.2.1 hd h ht (kk ls hL)) k
theorem r_tableIn {x : Int32} {dflt lo hi : Int} {offs : Array Int} {len : Nat} (hd : decode M.2.1 pc = .ok (.tableswitch dflt lo hi offs, len)) (off : Int) (h1 : ¬ x.toInt < lo) (h2 : ¬ hi < x.toInt) (ho : offs[(x.toInt - lo).toNat]? = some off) (tgt : Nat) (ht : (pc : Int) + off = (tgt : Int)) (k : pw_Wp E M d tgt L st w Post) : pw_Wp E M d pc L (.int x :: st) w Post :=
  pw_go (fun p e R s m args below meth c H locs cells slots ls Q hC _ _ hH hL kk => lv_tableIn hC.1 hC.2.1 hd h1 h2 ho ht (kk ls hL)) k
theorem pw_ne {x y : Int32} {n : Int} (h : ¬ x = y) (hy : y.toInt = n) : x.toInt ≠ n := fun q => h (Int32.toInt_inj.mp (q.trans hy.symm))
/-! ends -/
theorem r_ireturn {x : Int32} (hd : decode M.2.1 pc = .ok (.ireturn, 1)) (hr : M.2.2.2.1 = some .int) (hp : Post (.inl (some (.int x))) w) : pw_Wp E M d pc L [.int x] w Post :=
  pw_end hp (fun p e R s m args below meth c H locs cells slots ls hC hH hq hQ => W.iret hC.1 hC.2.1 (hC.2.2.1.trans hr) hQ hq hd hC.2.2.2.1)
theorem r_zreturn {x : Int32} {ty : FieldType} (hd : decode M.2.1 pc = .ok (.ireturn, 1)) (hr : M.2.2.2.1 = some ty) (hn : narrow ty (.int x) = .int x) (hp : Post (.inl (some (.int x))) w) : pw_Wp E M d pc L [.int x] w Post :=
  pw_end hp (fun p e R s m args below meth c H locs cells slots ls hC hH hq hQ => W.zret hC.1 hC.2.1 (hC.2.2.1.trans hr) hn hQ hq hd hC.2.2.2.1)
theorem r_return (hd : decode M.2.1 pc = .ok (.return_, 1)) (hr : M.2.2.2.1 = none) (hp : Post (.inl none) w) : pw_Wp E M d pc L [] w Post :=
  pw_end hp (fun p e R s m args below meth c H locs cells slots ls hC hH hq hQ => W.vret hC.1 hC.2.1 (hC.2.2.1.trans hr) hQ hq hd hC.2.2.2.1)
theorem r_areturn {o : Option Nat} {rt : FieldType} (hd : decode M.2.1 pc = .ok (.areturn, 1)) (hr : M.2.2.2.1 = some rt) (hrt : (∃ n, rt = .object n) ∨ ∃ t, rt = .array t) (hp : Post (.inl (some (va_rf o))) w) : pw_Wp E M d pc L [va_rf o] w Post :=
  pw_end hp (fun p e R s m args below meth c H locs cells slots ls hC hH hq hQ => W.aret hC.1 hC.2.1 (hC.2.2.1.trans hr) hrt (va_rf_or o) hQ hq hd hC.2.2.2.1)
theorem r_lreturn {x : Int64} (hd : decode M.2.1 pc = .ok (.lreturn, 1)) (hr : M.2.2.2.1 = some .long) (hp : Post (.inl (some (.long x))) w) : pw_Wp E M d pc L [.long x] w Post :=
  pw_end hp (fun p e R s m args below meth c H locs cells slots ls hC hH hq hQ => W.lret hC.1 hC.2.1 (hC.2.2.1.trans hr) hQ hq hd hC.2.2.2.1)
end
