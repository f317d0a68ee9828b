set_option maxRecDepth 100000
/-! the twin's object and its 16 arrays, as a world: the object at m, the arrays behind it in the order of their fields -/
/-- fields (by number; a boolean as 0 or 1), the long, arrays (by their place behind the object) -/
abbrev tw_S : Type := (Nat → Int) × Int64 × (Nat → Nat → Int)
/-- a field's array: its place behind the object; 0 where there is none -/
def tw_off (j : Nat) : Nat := match j with
  | 1 => 1 | 2 => 2 | 3 => 3 | 4 => 4 | 5 => 5 | 6 => 6 | 7 => 7 | 8 => 8 | 18 => 9 | 19 => 10 | 20 => 11 | 26 => 12 | 27 => 13 | 29 => 14 | 34 => 15 | 36 => 16 | _ => 0
def tw_len (k : Nat) : Nat := match k with
  | 1 => 2400 | 2 => 4 | 3 => 4 | 4 => 4 | 5 => 12 | 6 => 12208 | 7 => 456 | 8 => 200 | 9 => 1526 | 10 => 4 | 11 => 300 | 12 => 320 | 13 => 441 | 14 => 32 | 15 => 40 | 16 => 3 | _ => 0
def tw_ak (k : Nat) : Nat := match k with | 1 => 1001 | 16 => 1002 | _ => 1000
def tw_fv (m : Nat) (S : tw_S) (j : Nat) : Value := if j = 14 then .long S.2.1 else if tw_off j = 0 then .int (iI (S.1 j)) else va_rf (some (m + tw_off j))
def tw_fs (m : Nat) (S : tw_S) : List Value := (List.range 37).map (tw_fv m S)
def tw_av (S : tw_S) (k : Nat) : List Value := (List.range (tw_len k)).map (fun i => Value.int (iI (S.2.2 k i)))
def tw (w0 : pw_W) (m : Nat) (S : tw_S) : pw_W := (fun q => if q = m then some (2, tw_fs m S) else if m < q ∧ q ≤ m + 16 then some (tw_ak (q - m), tw_av S (q - m)) else w0.1 q, w0.2)
def tw_sf (S : tw_S) (j : Nat) (x : Int) : tw_S := (fun i => if i = j then x else S.1 i, S.2)
def tw_sl (S : tw_S) (x : Int64) : tw_S := (S.1, x, S.2.2)
def tw_sa (S : tw_S) (k i : Nat) (x : Int) : tw_S := (S.1, S.2.1, fun q n => if q = k ∧ n = i then x else S.2.2 q n)
section
variable {E : pw_E} {w0 : pw_W} {m : Nat} {S : tw_S}
theorem tw_2 : (tw w0 m S).2 = w0.2 := rfl
theorem tw_len_le (k : Nat) : tw_len k ≤ 12208 := by unfold tw_len; split <;> omega
theorem tw_rI {k : Nat} {t : Int} (h0 : 0 ≤ t) (hi : t < tw_len k) : rI t := by
  have := tw_len_le k
  constructor <;> omega
theorem tw_obj : (tw w0 m S).1 m = some (2, tw_fs m S) := by simp [tw]
theorem tw_arr {k : Nat} (h1 : 1 ≤ k) (h2 : k ≤ 16) : (tw w0 m S).1 (m + k) = some (tw_ak k, tw_av S k) := by
  unfold tw
  show (if m + k = m then _ else _) = _
  rw [if_neg (by omega), if_pos (by omega), Nat.add_sub_cancel_left]
theorem tw_fget {j : Nat} (hj : j < 37) : (tw_fs m S)[j]? = some (tw_fv m S j) := by
  unfold tw_fs
  rw [List.getElem?_map, List.getElem?_range hj]; rfl
theorem tw_aget {k i : Nat} (hi : i < tw_len k) : (tw_av S k)[i]? = some (.int (iI (S.2.2 k i))) := by
  unfold tw_av
  rw [List.getElem?_map, List.getElem?_range hi]; rfl
theorem tw_alen {k : Nat} : (tw_av S k).length = tw_len k := by simp [tw_av]
theorem tw_geti {j : Nat} {K : Int32 → Prop} (hj : (decide (j < 37) && (decide (tw_off j = 0) && !decide (j = 14))) = true) (h : K (iI (S.1 j))) : f_geti (tw w0 m S) (some m) 2 j K := by
  simp at hj
  refine ⟨m, _, iI (S.1 j), rfl, tw_obj, ?_, h⟩
  rw [tw_fget hj.1, tw_fv, if_neg hj.2.2, if_pos hj.2.1]
theorem tw_getl {K : Int64 → Prop} (h : K S.2.1) : f_getl (tw w0 m S) (some m) 2 14 K := ⟨m, _, S.2.1, rfl, tw_obj, by rw [tw_fget (by omega)]; rfl, h⟩
theorem tw_getr {j : Nat} {K : Option Nat → Prop} (hj : (decide (j < 37) && !decide (tw_off j = 0)) = true) (h : K (some (m + tw_off j))) : f_getr (tw w0 m S) (some m) 2 j K := by
  simp at hj
  refine ⟨m, _, _, rfl, tw_obj, ?_, h⟩
  rw [tw_fget hj.1, tw_fv, if_neg (by intro e; rw [e] at hj; exact hj.2 rfl), if_neg hj.2]
theorem tw_aldi {k : Nat} {i : Int32} {t : Int} {K : Int32 → Prop} (hk : (decide (1 < k) && decide (k < 16)) = true) (p : i = iI t) (h0 : 0 ≤ t) (hi : t < tw_len k) (h : K (iI (S.2.2 k t.toNat))) : f_aldi (tw w0 m S) (some (m + k)) i K := by
  simp at hk
  subst p
  have hr := tw_rI h0 hi
  refine ⟨m + k, 0, tw_av S k, iI (S.2.2 k t.toNat), rfl, ?_, rfl, ?_, ?_, h⟩
  · rw [tw_arr (by omega) (by omega)]
    have : tw_ak k = 1000 := by unfold tw_ak; split <;> omega
    rw [this]
  · rw [show (0 : Int32) = iI 0 from rfl, iI_lt hr (by constructor <;> omega)]; omega
  · rw [iI_nat hr]; exact tw_aget (by omega)
theorem tw_aldb {i : Int32} {t : Int} {K : Int32 → Prop} (p : i = iI t) (h0 : 0 ≤ t) (hi : t < 2400) (h : K (iI (S.2.2 1 t.toNat))) : f_aldb (tw w0 m S) (some (m + 1)) i K := by
  subst p
  have hr := tw_rI (k := 1) h0 hi
  refine ⟨m + 1, _, _, rfl, tw_arr (k := 1) (by omega) (by omega), ?_, tw_aget (k := 1) (i := t.toNat) (by show _ < 2400; omega) |> fun q => by rw [iI_nat hr]; exact q, h⟩
  rw [show (0 : Int32) = iI 0 from rfl, iI_lt hr (by constructor <;> omega)]; omega
theorem tw_aldz {i : Int32} {t : Int} {K : Int32 → Prop} (p : i = iI t) (h0 : 0 ≤ t) (hi : t < 3) (h : K (iI (S.2.2 16 t.toNat))) : f_aldz (tw w0 m S) (some (m + 16)) i K := by
  subst p
  have hr := tw_rI (k := 16) h0 hi
  refine ⟨m + 16, _, _, rfl, tw_arr (k := 16) (by omega) (by omega), ?_, tw_aget (k := 16) (i := t.toNat) (by show _ < 3; omega) |> fun q => by rw [iI_nat hr]; exact q, h⟩
  rw [show (0 : Int32) = iI 0 from rfl, iI_lt hr (by constructor <;> omega)]; omega
theorem tw_len_of {k : Nat} {K : Int32 → Prop} (h1 : 1 ≤ k) (h2 : k ≤ 16) (h : K (Int32.ofNat (tw_len k))) : f_len (tw w0 m S) (some (m + k)) K := by
  have ht : ∃ t ty, tw_ak k = 1000 + t ∧ pw_ar[t]? = some ty := by
    unfold tw_ak
    split
    · exact ⟨1, _, rfl, rfl⟩
    · exact ⟨2, _, rfl, rfl⟩
    · exact ⟨0, _, rfl, rfl⟩
  obtain ⟨t, ty, e1, e2⟩ := ht
  refine ⟨m + k, t, ty, tw_av S k, rfl, ?_, e2, by rw [tw_alen]; exact h⟩
  rw [tw_arr h1 h2, e1]
theorem tw_upf {j : Nat} {x : Int} (hj : (decide (j < 37) && (decide (tw_off j = 0) && !decide (j = 14))) = true) : pw_up (tw w0 m S) m (2, (tw_fs m S).set j (.int (iI x))) = tw w0 m (tw_sf S j x) := by
  simp at hj
  have e : (tw_fs m S).set j (.int (iI x)) = tw_fs m (tw_sf S j x) := by
    apply List.ext_getElem?
    intro n
    by_cases hn : n < 37
    · rw [tw_fget hn, List.getElem?_set, tw_fget hn]
      by_cases h1 : j = n
      · subst h1
        simp [tw_fs, hj.1, tw_fv, hj.2.1, hj.2.2, tw_sf]
      · rw [if_neg h1]
        simp [tw_fv, tw_sf, Ne.symm h1]
    · rw [List.getElem?_eq_none (by simp [tw_fs]; omega), List.getElem?_eq_none (by simp [tw_fs]; omega)]
  unfold pw_up tw
  refine Prod.ext (funext fun q => ?_) rfl
  show (if q = m then _ else _) = _
  by_cases h : q = m
  · simp [h, e]
  · simp [h]; rfl
theorem tw_upl {x : Int64} : pw_up (tw w0 m S) m (2, (tw_fs m S).set 14 (.long x)) = tw w0 m (tw_sl S x) := by
  have e : (tw_fs m S).set 14 (.long x) = tw_fs m (tw_sl S x) := by
    apply List.ext_getElem?
    intro n
    by_cases hn : n < 37
    · rw [tw_fget hn, List.getElem?_set, tw_fget hn]
      by_cases h1 : 14 = n
      · subst h1
        simp [tw_fs, tw_fv, tw_sl]
      · rw [if_neg h1]
        simp [tw_fv, tw_sl, Ne.symm h1]
    · rw [List.getElem?_eq_none (by simp [tw_fs]; omega), List.getElem?_eq_none (by simp [tw_fs]; omega)]
  unfold pw_up tw
  refine Prod.ext (funext fun q => ?_) rfl
  show (if q = m then _ else _) = _
  by_cases h : q = m
  · simp [h, e]
  · simp [h]; rfl
theorem tw_upa {k i : Nat} {x : Int} (h1 : 1 ≤ k) (h2 : k ≤ 16) : pw_up (tw w0 m S) (m + k) (tw_ak k, (tw_av S k).set i (.int (iI x))) = tw w0 m (tw_sa S k i x) := by
  have e : (tw_av S k).set i (.int (iI x)) = tw_av (tw_sa S k i x) k := by
    apply List.ext_getElem?
    intro n
    by_cases hn : n < tw_len k
    · rw [tw_aget hn, List.getElem?_set, tw_aget hn]
      by_cases h1 : i = n
      · subst h1
        simp [tw_av, hn, tw_sa]
      · rw [if_neg h1]
        simp [tw_sa, Ne.symm h1]
    · rw [List.getElem?_eq_none (by simp [tw_av]; omega), List.getElem?_eq_none (by simp [tw_av]; omega)]
  unfold pw_up tw
  refine Prod.ext (funext fun q => ?_) rfl
  show (if q = m + k then _ else _) = _
  by_cases h : q = m + k
  · subst h
    show _ = if m + k = m then _ else if m < m + k ∧ m + k ≤ m + 16 then _ else _
    rw [if_pos rfl, if_neg (by omega), if_pos (by omega), Nat.add_sub_cancel_left, e]
  · rw [if_neg h]
    show (if q = m then _ else _) = (if q = m then _ else _)
    by_cases h3 : q = m
    · rw [if_pos h3, if_pos h3]; rfl
    · rw [if_neg h3, if_neg h3]
      by_cases h4 : m < q ∧ q ≤ m + 16
      · rw [if_pos h4, if_pos h4]
        have : ∀ n, (tw_sa S k i x).2.2 (q - m) n = S.2.2 (q - m) n := fun n => by
          show (if q - m = k ∧ n = i then x else _) = _
          rw [if_neg (by omega)]
        simp [tw_av, this]
      · rw [if_neg h4, if_neg h4]
theorem tw_puti {j : Nat} {e : Int32} {x : Int} {K : pw_W → Prop} (hm : pw_base E ≤ m) (hj : (decide (j < 37) && (decide (tw_off j = 0) && !decide (j = 14))) = true) (p : e = iI x) (h : K (tw w0 m (tw_sf S j x))) : f_put E (tw w0 m S) (some m) 2 j (.int e) K :=
  ⟨m, _, rfl, tw_obj, hm, by rw [p, tw_upf hj]; exact h⟩
theorem tw_putl {x : Int64} {K : pw_W → Prop} (hm : pw_base E ≤ m) (h : K (tw w0 m (tw_sl S x))) : f_put E (tw w0 m S) (some m) 2 14 (.long x) K :=
  ⟨m, _, rfl, tw_obj, hm, by rw [tw_upl]; exact h⟩
theorem tw_asti {k : Nat} {i e : Int32} {t x : Int} {K : pw_W → Prop} (hm : pw_base E ≤ m) (hk : (decide (1 < k) && decide (k < 16)) = true) (p : i = iI t) (h0 : 0 ≤ t) (hi : t < tw_len k) (q : e = iI x) (h : K (tw w0 m (tw_sa S k t.toNat x))) : f_asti E (tw w0 m S) (some (m + k)) i e K := by
  simp at hk
  subst p
  subst q
  have hr := tw_rI h0 hi
  have e : tw_ak k = 1000 := by unfold tw_ak; split <;> omega
  have h2 := tw_upa (w0 := w0) (m := m) (S := S) (k := k) (i := t.toNat) (x := x) (by omega) (by omega)
  have h3 := tw_arr (w0 := w0) (m := m) (S := S) (k := k) (by omega) (by omega)
  rw [e] at h2 h3
  refine ⟨m + k, _, rfl, h3, by omega, ?_, by rw [tw_alen, iI_nat hr]; omega, by rw [iI_nat hr, h2]; exact h⟩
  rw [show (0 : Int32) = iI 0 from rfl, iI_lt hr (by constructor <;> omega)]; omega
/-- a byte's value -/
def iB (z : Int) : Int := ((iI z).toInt8.toInt32).toInt
theorem tw_astb {i e : Int32} {t x : Int} {K : pw_W → Prop} (hm : pw_base E ≤ m) (p : i = iI t) (h0 : 0 ≤ t) (hi : t < 2400) (q : e = iI x) (h : K (tw w0 m (tw_sa S 1 t.toNat (iB x)))) : f_astb E (tw w0 m S) (some (m + 1)) i e K := by
  subst p
  subst q
  have hr := tw_rI (k := 1) h0 hi
  refine ⟨m + 1, _, rfl, tw_arr (k := 1) (by omega) (by omega), by omega, ?_, by rw [tw_alen, iI_nat hr]; show _ < 2400; omega, ?_⟩
  · rw [show (0 : Int32) = iI 0 from rfl, iI_lt hr (by constructor <;> omega)]; omega
  · have h2 := tw_upa (w0 := w0) (m := m) (S := S) (k := 1) (i := t.toNat) (x := iB x) (by omega) (by omega)
    rw [iI_nat hr, show (1001 : Nat) = tw_ak 1 from rfl, show (iI x).toInt8.toInt32 = iI (iB x) from (iI_of _).symm, h2]; exact h
theorem tw_astz {i e : Int32} {t x : Int} {K : pw_W → Prop} (hm : pw_base E ≤ m) (p : i = iI t) (h0 : 0 ≤ t) (hi : t < 3) (q : e = iI x) (hx : x = 0 ∨ x = 1) (h : K (tw w0 m (tw_sa S 16 t.toNat x))) : f_astz E (tw w0 m S) (some (m + 16)) i e K := by
  subst p
  subst q
  have hr := tw_rI (k := 16) h0 hi
  refine ⟨m + 16, _, rfl, tw_arr (k := 16) (by omega) (by omega), by omega, ?_, by rw [tw_alen, iI_nat hr]; show _ < 3; omega, ?_, ?_⟩
  · rw [show (0 : Int32) = iI 0 from rfl, iI_lt hr (by constructor <;> omega)]; omega
  · rcases hx with rfl | rfl <;> rfl
  · have h2 := tw_upa (w0 := w0) (m := m) (S := S) (k := 16) (i := t.toNat) (x := x) (by omega) (by omega)
    rw [iI_nat hr, show (1002 : Nat) = tw_ak 16 from rfl, h2]; exact h
theorem tw_V {M : pw_M} {d : Nat} {av : List Value} {K : pw_R → pw_W → Prop} (h : pw_Cl E M d (va_rf (some m) :: av) (tw w0 m S) K) : f_V E (tw w0 m S) (some m) 2 M d av K := ⟨m, _, rfl, tw_obj, h⟩
end
/-! the printed pure formulas' words -/
theorem iI_addE {a b : Int32} {s t : Int} (p : a = iI s) (q : b = iI t) : a + b = iI (s + t) := by rw [p, q, iI_add]
theorem iI_subE {a b : Int32} {s t : Int} (p : a = iI s) (q : b = iI t) : a - b = iI (s - t) := by rw [p, q, iI_sub]
theorem iI_mulE {a b : Int32} {s t : Int} (p : a = iI s) (q : b = iI t) : a * b = iI (s * t) := by rw [p, q, iI_mul]
theorem iI_negE {a : Int32} {s : Int} (p : a = iI s) : - a = iI (- s) := by rw [p, iI_neg]
theorem iI_bE (b : Bool) : bI b = iI (if b then 1 else 0) := by cases b <;> rfl
theorem iI_oE (x : Int32) : x = iI x.toInt := (iI_of x).symm
theorem f_ltE {a b : Int32} {s t : Int} {A B A' B' : Prop} (p : a = iI s) (q : b = iI t) (h1 : rI s) (h2 : rI t) (H : if s < t then A' else B') (hA : A' → A) (hB : B' → B) : if a < b then A else B := by
  rw [p, q]
  by_cases h : s < t
  · rw [if_pos h] at H
    rw [if_pos (by rw [iI_lt h1 h2]; exact h)]
    exact hA H
  · rw [if_neg h] at H
    rw [if_neg (by rw [iI_lt h1 h2]; exact h)]
    exact hB H
theorem f_leE {a b : Int32} {s t : Int} {A B A' B' : Prop} (p : a = iI s) (q : b = iI t) (h1 : rI s) (h2 : rI t) (H : if s ≤ t then A' else B') (hA : A' → A) (hB : B' → B) : if a ≤ b then A else B := by
  rw [p, q]
  by_cases h : s ≤ t
  · rw [if_pos h] at H
    rw [if_pos (by rw [iI_le h1 h2]; exact h)]
    exact hA H
  · rw [if_neg h] at H
    rw [if_neg (by rw [iI_le h1 h2]; exact h)]
    exact hB H
theorem f_eqE {a b : Int32} {s t : Int} {A B A' B' : Prop} (p : a = iI s) (q : b = iI t) (h1 : rI s) (h2 : rI t) (H : if s = t then A' else B') (hA : A' → A) (hB : B' → B) : if a = b then A else B := by
  rw [p, q]
  by_cases h : s = t
  · rw [if_pos h] at H
    rw [if_pos (by rw [iI_eq h1 h2]; exact h)]
    exact hA H
  · rw [if_neg h] at H
    rw [if_neg (by rw [iI_eq h1 h2]; exact h)]
    exact hB H
theorem f_bE {b : Bool} {A B A' B' : Prop} (H : if b = true then B' else A') (hA : A' → A) (hB : B' → B) : if bI b = 0 then A else B := by
  cases b with
  | true => rw [if_pos rfl] at H; rw [if_neg (by decide)]; exact hB H
  | false => rw [if_neg (by decide)] at H; rw [if_pos (by decide)]; exact hA H
/-- any other test -/
theorem f_oE {c : Prop} [Decidable c] {A B A' B' : Prop} (H : if c then A' else B') (hA : A' → A) (hB : B' → B) : if c then A else B := by
  by_cases h : c
  · rw [if_pos h] at H ⊢; exact hA H
  · rw [if_neg h] at H ⊢; exact hB H
def t_i (w0 : pw_W) (m : Nat) (K : Int → tw_S → Prop) : Int32 → pw_W → Prop := fun x w => ∃ (z : Int) (S : tw_S), x = iI z ∧ w = tw w0 m S ∧ K z S
def t_b (w0 : pw_W) (m : Nat) (K : Bool → tw_S → Prop) : Bool → pw_W → Prop := fun x w => ∃ (S : tw_S), w = tw w0 m S ∧ K x S
def t_u (w0 : pw_W) (m : Nat) (K : tw_S → Prop) : pw_W → Prop := fun w => ∃ (S : tw_S), w = tw w0 m S ∧ K S
theorem t_iE {w0 : pw_W} {m : Nat} {K : Int → tw_S → Prop} {K' : Int32 → pw_W → Prop} (h : ∀ z S, K z S → K' (iI z) (tw w0 m S)) : ∀ r w, c_i (t_i w0 m K) r w → c_i K' r w := by
  rintro r w ⟨x, rfl, z, S, rfl, rfl, k⟩
  exact ⟨_, rfl, h z S k⟩
theorem t_bE {w0 : pw_W} {m : Nat} {K : Bool → tw_S → Prop} {K' : Bool → pw_W → Prop} (h : ∀ z S, K z S → K' z (tw w0 m S)) : ∀ r w, c_z (t_b w0 m K) r w → c_z K' r w := by
  rintro r w ⟨x, rfl, S, rfl, k⟩
  exact ⟨_, rfl, h x S k⟩
theorem t_uE {w0 : pw_W} {m : Nat} {K : tw_S → Prop} {K' : pw_W → Prop} (h : ∀ S, K S → K' (tw w0 m S)) : ∀ r w, c_v (t_u w0 m K) r w → c_v K' r w := by
  rintro r w ⟨rfl, S, rfl, k⟩
  exact ⟨rfl, h S k⟩
theorem pw_avE {E : pw_E} {M : pw_M} {d : Nat} {av av' : List Value} {w : pw_W} {K : pw_R → pw_W → Prop} (h : av = av') (k : pw_Cl E M d av' w K) : pw_Cl E M d av w K := h ▸ k
theorem l_0 : ([] : List Value) = [] := rfl
theorem l_i {e e' : Int32} {a b : List Value} (p : e = e') (q : a = b) : (.int e :: a : List Value) = .int e' :: b := by rw [p, q]
theorem l_k {v : Value} {a b : List Value} (q : a = b) : (v :: a) = v :: b := by rw [q]
theorem g_0 : ([] : List (Option Value)) = [] := rfl
theorem g_i {e e' : Int32} {a b : List (Option Value)} (p : e = e') (q : a = b) : (some (.int e) :: a : List (Option Value)) = some (.int e') :: b := by rw [p, q]
theorem g_k {v : Option Value} {a b : List (Option Value)} (q : a = b) : (v :: a) = v :: b := by rw [q]
theorem c_pi {Post : pw_R → pw_W → Prop} {e e' : Int32} {w : pw_W} (p : e = e') (h : Post (.inl (some (.int e'))) w) : Post (.inl (some (.int e))) w := by rw [p]; exact h
theorem pw_stE {E : pw_E} {M : pw_M} {d pc : Nat} {L : List (Option Value)} {st st' : List Value} {w : pw_W} {Post : pw_R → pw_W → Prop} (h : st = st') (k : pw_Wp E M d pc L st' w Post) : pw_Wp E M d pc L st w Post := h ▸ k
theorem nar_01 {e : Int32} {t : Int} (p : e = iI t) (h : t = 0 ∨ t = 1) : narrow .boolean (.int e) = .int e := by
  subst p
  rcases h with rfl | rfl <;> rfl
theorem f_ne0 {e : Int32} {t : Int} (p : e = iI t) (hr : rI t) (h : t ≠ 0) : ¬ e = 0 := by
  subst p
  rw [show (0 : Int32) = iI 0 from rfl, iI_eq hr (by constructor <;> decide)]
  exact h
