set_option maxRecDepth 100000
/-! the plain law: what fits a hunt -/
section
variable {A B : Nat → Int} {Ds : List dc} {g : Nat → Nat → Nat} {i v p j k : Nat} {D : dc} {t : Int} {F : List hF} {s : List Int} {XS : List (List Int)}
theorem sure_eq {x : Int} {SS : List (List Int)} (hx : ∀ c : Nat, c < 27 → s_has x c = SS.any (fun s => decide (hu_c s = c))) (hr : rI x) (hz : SS = [] → x = 0) (hs : ∀ s ∈ SS, 1 ≤ hu_c s ∧ hu_c s ≤ 26) (h1 : ∀ s0 ∈ SS, (∀ s ∈ SS, hu_c s = hu_c s0) → x = s_bit (hu_c s0)) : h_sureF x 26 1 = hu_sure (-1) SS := by
  have nb : ∀ e : Nat, 1 ≤ e → e < 27 → x = s_bit (e : Nat) → ∀ s ∈ SS, hu_c s = e := by
    intro e e1 e2 ex s hsm
    obtain ⟨c1, c2⟩ := hs s hsm
    have ec : (((hu_c s).toNat : Nat) : Int) = hu_c s := by omega
    have a := hx (hu_c s).toNat (by omega)
    rw [ex] at a
    have b := bit_26 ⟨e, e2⟩ ⟨(hu_c s).toNat, by omega⟩
    have b : s_has (s_bit (e : Nat)) ((hu_c s).toNat : Nat) = decide (e = (hu_c s).toNat) := b
    rw [b] at a
    have : SS.any (fun s' => decide (hu_c s' = (((hu_c s).toNat : Nat) : Int))) = true := List.any_eq_true.mpr ⟨s, hsm, by rw [ec]; exact decide_eq_true rfl⟩
    rw [this] at a
    have := of_decide_eq_true a
    omega
  match SS, hx, hz, hs, h1, nb with
  | [], hx, hz, hs, h1, nb =>
    have x0 := hz rfl
    refine sureF_no 26 1 (fun e e1 e2 ex => ?_)
    have := hx e (by omega)
    rw [ex] at this
    have b := bit_26 ⟨e, by omega⟩ ⟨e, by omega⟩
    have b : s_has (s_bit (e : Nat)) (e : Nat) = decide (e = e) := b
    rw [b, decide_eq_true rfl] at this
    cases this
  | s0 :: l, hx, hz, hs, h1, nb =>
    obtain ⟨c1, c2⟩ := hs s0 List.mem_cons_self
    have ec : (((hu_c s0).toNat : Nat) : Int) = hu_c s0 := by omega
    have e0 : hu_sure (-1) (s0 :: l) = hu_sure (hu_c s0) l := rfl
    rw [e0, hu_sure_all (hu_c s0) l (by omega) (fun s hsm => by have := hs s (List.mem_cons_of_mem _ hsm); omega)]
    by_cases al : l.all (fun s => decide (hu_c s = hu_c s0)) = true
    · rw [if_pos al]
      have hall : ∀ s ∈ s0 :: l, hu_c s = hu_c s0 := by
        intro s hsm
        rcases List.mem_cons.mp hsm with rfl | hsm
        · rfl
        · exact of_decide_eq_true (List.all_eq_true.mp al s hsm)
      have ex := h1 s0 List.mem_cons_self hall
      rw [← ec] at ex ⊢
      refine sureF_at 26 1 (by omega) (by omega) ex (fun e e1 e2 ez => ?_)
      have := nb e e1 (by omega) ez s0 List.mem_cons_self
      omega
    · rw [if_neg al]
      refine sureF_no 26 1 (fun e e1 e2 ez => al ?_)
      refine List.all_eq_true.mpr (fun s hsm => decide_eq_true ?_)
      rw [nb e e1 (by omega) ez s (List.mem_cons_of_mem _ hsm), nb e e1 (by omega) ez s0 List.mem_cons_self]
theorem askF_up {A : Nat → Int} {fit : Int} {Y : Nat → Int} (hf : 0 < fit) : ∀ (f i : Nat) (b s : Int), h_askF A fit Y f i b s = (upto f (fun k (p : Int × Int) => if a_isVer A ((i + k) / 10 : Nat) ((i + k) % 10 : Nat) = true then (if p.2 ≤ max (Y (i + k)) (fit - Y (i + k)) then p else (((i + k : Nat) : Int), max (Y (i + k)) (fit - Y (i + k)))) else p) (b, s)).1 := by
  intro f
  induction f with
  | zero => intro i b s; rfl
  | succ f ih =>
    intro i b s
    rw [Nat.add_comm f 1, upto_addn]
    have e : (1 + f : Nat) = f + 1 := Nat.add_comm 1 f
    rw [e]
    show (if fit ≤ 0 then b else if a_isVer A (i / 10 : Nat) (i % 10 : Nat) = true then (if s ≤ max (Y i) (fit - Y i) then h_askF A fit Y f (i + 1) b s else h_askF A fit Y f (i + 1) i (max (Y i) (fit - Y i))) else h_askF A fit Y f (i + 1) b s) = _
    rw [if_neg (by omega), ih (i + 1) b s, ih (i + 1) i (max (Y i) (fit - Y i))]
    have sh : ∀ x : Int × Int, upto f (fun v (p : Int × Int) => if a_isVer A ((i + (1 + v)) / 10 : Nat) ((i + (1 + v)) % 10 : Nat) = true then (if p.2 ≤ max (Y (i + (1 + v))) (fit - Y (i + (1 + v))) then p else (((i + (1 + v) : Nat) : Int), max (Y (i + (1 + v))) (fit - Y (i + (1 + v))))) else p) x = upto f (fun v (p : Int × Int) => if a_isVer A ((i + 1 + v) / 10 : Nat) ((i + 1 + v) % 10 : Nat) = true then (if p.2 ≤ max (Y (i + 1 + v)) (fit - Y (i + 1 + v)) then p else (((i + 1 + v : Nat) : Int), max (Y (i + 1 + v)) (fit - Y (i + 1 + v)))) else p) x := fun x => upto_cg f (fun k a _ => by rw [← Nat.add_assoc])
    rw [sh]
    show _ = (upto f _ (if a_isVer A ((i + 0) / 10 : Nat) ((i + 0) % 10 : Nat) = true then (if s ≤ max (Y (i + 0)) (fit - Y (i + 0)) then (b, s) else (((i + 0 : Nat) : Int), max (Y (i + 0)) (fit - Y (i + 0)))) else (b, s))).1
    have z : i + 0 = i := Nat.add_zero i
    rw [z]
    by_cases c1 : a_isVer A (i / 10 : Nat) (i % 10 : Nat) = true
    · rw [if_pos c1, if_pos c1]
      by_cases c2 : s ≤ max (Y i) (fit - Y i)
      · rw [if_pos c2, if_pos c2]
      · rw [if_neg c2, if_neg c2]
    · rw [if_neg c1, if_neg c1]
theorem hu_cnt_rr (Ds : List dc) (SS : List (List Int)) (x y : Int) (n : Nat) : 0 ≤ hu_cnt Ds SS x y n ∧ hu_cnt Ds SS x y n ≤ n := upto_cnt (c := fun k => da_has Ds (SS.getD k []) x y = true) n
theorem rl_ok.ask (h : rl_ok A Ds g) {SS : List (List Int)} (hl : SS.length ≤ 800) {Y : Nat → Int} (hY : ∀ j : Nat, j < 40 → Y j = hu_cnt Ds SS (j / 10 : Nat) (j % 10 : Nat) SS.length) : h_askF A SS.length Y 40 0 (-1) 1000000 = hu_ask Ds SS := by
  unfold hu_ask
  by_cases z : SS.length = 0
  · rw [if_pos z, z]
    show (if (0 : Int) ≤ 0 then (-1 : Int) else _) = -1
    rw [if_pos (Int.le_refl 0)]
  · rw [if_neg z, askF_up (by omega)]
    have e := h.flat (fun i v q => hu_ask1 Ds SS i v q) ((-1 : Int), (268435456 : Int))
    rw [e]
    have key : ∀ n, n ≤ 40 → (fun (p q : Int × Int) => p.1 = q.1 ∧ (p.2 = q.2 ∨ (p.2 = 1000000 ∧ q.2 = 268435456))) (upto n (fun k (p : Int × Int) => if a_isVer A ((0 + k) / 10 : Nat) ((0 + k) % 10 : Nat) = true then (if p.2 ≤ max (Y (0 + k)) ((SS.length : Int) - Y (0 + k)) then p else (((0 + k : Nat) : Int), max (Y (0 + k)) ((SS.length : Int) - Y (0 + k)))) else p) (-1, 1000000)) (upto n (fun k q => if isV Ds k then hu_ask1 Ds SS (k / 10) (k % 10) q else q) (-1, 268435456)) := by
      intro n
      induction n with
      | zero => intro _; exact ⟨rfl, Or.inr ⟨rfl, rfl⟩⟩
      | succ n ih =>
        intro hn
        rw [upto_s, upto_s]
        have ih := ih (by omega)
        generalize upto n (fun k (p : Int × Int) => if a_isVer A ((0 + k) / 10 : Nat) ((0 + k) % 10 : Nat) = true then (if p.2 ≤ max (Y (0 + k)) ((SS.length : Int) - Y (0 + k)) then p else (((0 + k : Nat) : Int), max (Y (0 + k)) ((SS.length : Int) - Y (0 + k)))) else p) (-1, 1000000) = P at ih ⊢
        generalize upto n (fun k q => if isV Ds k then hu_ask1 Ds SS (k / 10) (k % 10) q else q) ((-1 : Int), (268435456 : Int)) = R at ih ⊢
        obtain ⟨i1, i2⟩ := ih
        rw [Nat.zero_add, h.isVer n]
        by_cases c : isV Ds n
        · rw [decide_eq_true c, if_pos rfl, if_pos c, hY n (by omega)]
          unfold hu_ask1 hu_most
          have r := hu_cnt_rr Ds SS (n / 10 : Nat) (n % 10 : Nat) SS.length
          generalize hu_cnt Ds SS (n / 10 : Nat) (n % 10 : Nat) SS.length = C at r ⊢
          by_cases q : P.2 ≤ max C ((SS.length : Int) - C)
          · rw [if_pos q, if_neg (by omega)]
            exact ⟨i1, i2⟩
          · rw [if_neg q, if_pos (by omega)]
            refine ⟨?_, Or.inl rfl⟩
            show (n : Int) = 10 * ((n / 10 : Nat) : Int) + ((n % 10 : Nat) : Int)
            omega
        · rw [decide_eq_false c, if_neg (by simp), if_neg c]
          exact ⟨i1, i2⟩
    exact (key 40 (Nat.le_refl _)).1
theorem rl_ok.fits (h : rl_ok A Ds g) (hF : hr B t F) (hX : wl_ok A Ds XS) (hl : XS.length ≤ 800) {q : Int} (hq : rI q) : h_fits A B t q = if q = 0 then ((XS.filter (hu_so Ds F)).length : Int) else if q = 1 then hu_sure (-1) (XS.filter (hu_so Ds F)) else if q = 2 then hu_ask Ds (XS.filter (hu_so Ds F)) else if 10 ≤ q then (match (XS.filter (hu_so Ds F))[(q - 10).toNat]? with | some s => s_code s | none => -2) else -2 := by
  have e0 : (a_words A (A 5).toNat).length = XS.length := by rw [hX.1, List.length_map]
  have st := fun y => h.hst hF hX y XS.length (Nat.le_refl _)
  rw [List.take_length] at st
  have hsl : (XS.filter (hu_so Ds F)).length ≤ 800 := Nat.le_trans (List.length_filter_le _ _) hl
  have hwf : ∀ s ∈ XS.filter (hu_so Ds F), 1 ≤ hu_c s ∧ hu_c s ≤ 26 := fun s hs => by
    obtain ⟨s1, s2⟩ := hX.2 s (List.mem_filter.mp hs).1
    exact (wide_first s1 s2).2
  unfold h_fits
  rw [e0]
  by_cases c : q < 10
  · rw [if_pos c]
    obtain ⟨s1, s2, s3, s4⟩ := st (Int32.toInt (iI (q - 10)))
    by_cases z0 : q = 0
    · rw [if_pos z0, if_pos z0, s1]
    rw [if_neg z0, if_neg z0]
    by_cases z1 : q = 1
    · rw [if_pos z1, if_pos z1]
      have bd : ∀ n, n ≤ XS.length → (fun (x : Int) (SS : List (List Int)) => rI x ∧ (SS = [] → x = 0) ∧ ∀ s0 ∈ SS, (∀ s ∈ SS, hu_c s = hu_c s0) → x = s_bit (hu_c s0)) (h_st A B t (Int32.toInt (iI (q - 10))) (a_words A (A 5).toNat) n).2.2.1 ((XS.take n).filter (hu_so Ds F)) := by
        intro n
        induction n with
        | zero => intro _; exact ⟨⟨by show (-2147483648 : Int) ≤ 0; omega, by show (0 : Int) < 2147483648; omega⟩, fun _ => rfl, fun s0 hs0 => by cases hs0⟩
        | succ n ih =>
          intro hn
          obtain ⟨i1, i2, i3⟩ := ih (by omega)
          obtain ⟨s, hs⟩ := dc_get (l := XS) (i := n) (by omega)
          obtain ⟨t1, t2⟩ := hX.2 s (List.mem_of_getElem? hs)
          obtain ⟨c1, c2, c3⟩ := wide_first t1 t2
          have hg : (a_words A (A 5).toNat).getD n 0 = s_code s := by
            have e : (a_words A (A 5).toNat)[n]? = some (s_code s) := by rw [hX.1, List.getElem?_map, hs]; rfl
            exact dc_getD e
          have est : (h_st A B t (Int32.toInt (iI (q - 10))) (a_words A (A 5).toNat) (n + 1)).2.2.1 = if h_isSo A B t ((a_words A (A 5).toNat).getD n 0) = true then s_or (h_st A B t (Int32.toInt (iI (q - 10))) (a_words A (A 5).toNat) n).2.2.1 (s_bit (s_wide 4 ((a_words A (A 5).toNat).getD n 0) / 19683)) else (h_st A B t (Int32.toInt (iI (q - 10))) (a_words A (A 5).toNat) n).2.2.1 := by
            have e9 : ∀ (c : Bool) (X Y : Int × Int × Int × (Nat → Int)), (if c = true then X else Y).2.2.1 = if c = true then X.2.2.1 else Y.2.2.1 := fun c X Y => by cases c <;> rfl
            exact e9 _ _ _
          rw [take_s hs, List.filter_append, est, hg, h.hso hF t1 t2, c1]
          have ef : [s].filter (hu_so Ds F) = if hu_so Ds F s = true then [s] else [] := by
            rw [List.filter_cons]
            rfl
          rw [ef]
          generalize (h_st A B t (Int32.toInt (iI (q - 10))) (a_words A (A 5).toNat) n).2.2.1 = X at i1 i2 i3 ⊢
          generalize (XS.take n).filter (hu_so Ds F) = SS at i1 i2 i3 ⊢
          by_cases c : hu_so Ds F s = true
          · rw [if_pos c, if_pos c]
            refine ⟨rI_or _ _, fun e => by simp at e, fun s0 hs0 hall => ?_⟩
            have es : hu_c s = hu_c s0 := hall s (by simp)
            match SS, i2, i3, hall with
            | [], i2, i3, _ =>
              rw [i2 rfl, es]
              unfold s_or
              rw [show iI 0 = 0 from rfl, Int32.zero_or]
              exact iI_toInt (by unfold s_bit; exact rI_of _)
            | x :: l, i2, i3, hall =>
              have ex : hu_c x = hu_c s0 := hall x (by simp)
              have := i3 x (by simp) (fun y hy => (hall y (by rw [List.mem_append]; exact Or.inl hy)).trans ex.symm)
              rw [this, es, ex]
              unfold s_or
              rw [Int32.or_self]
              exact iI_toInt (by unfold s_bit; exact rI_of _)
          · rw [if_neg c, if_neg c, List.append_nil]
            exact ⟨i1, i2, i3⟩
      have b := bd XS.length (Nat.le_refl _)
      rw [List.take_length] at b
      exact sure_eq s3 b.1 b.2.1 hwf b.2.2
    rw [if_neg z1, if_neg z1]
    by_cases z2 : q = 2
    · rw [if_pos z2, if_pos z2, s1]
      exact h.ask hsl s4
    rw [if_neg z2, if_neg z2, if_neg (by omega)]
  · rw [if_neg c, if_neg (by omega), if_neg (by omega), if_neg (by omega), if_pos (by omega)]
    obtain ⟨s1, s2, s3, s4⟩ := st (Int32.toInt (iI (q - 10)))
    rw [s2]
    have e1 : Int32.toInt (iI (q - 10)) = q - 10 := iI_toInt ⟨by have := hq.1; omega, by have := hq.2; omega⟩
    rw [e1, if_pos (by omega)]
    rfl
end
