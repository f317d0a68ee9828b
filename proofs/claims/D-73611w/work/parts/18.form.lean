set_option maxRecDepth 100000
/-! the words of the printed formulas: what a run of rows asks of the heap -/
def bI (b : Bool) : Int32 := if b then 1 else 0
theorem bI_t : bI true = 1 := rfl
theorem bI_f : bI false = 0 := rfl
theorem bI_0 (b : Bool) : (bI b = 0) = (b = false) := by cases b <;> decide
theorem bI_n0 (b : Bool) : (¬ bI b = 0) = (b = true) := by cases b <;> decide
theorem bI_1 (b : Bool) : (bI b = 1) = (b = true) := by cases b <;> decide
theorem nar_bI (b : Bool) : narrow .boolean (.int (bI b)) = .int (bI b) := by cases b <;> rfl
theorem fit_bI (b : Bool) : fits .boolean (.int (bI b)) = true := by cases b <;> rfl
theorem nar_ro (C : String) (o : Option Nat) : narrow (.object C) (va_rf o) = va_rf o := by cases o <;> rfl
theorem nar_ra (t : FieldType) (o : Option Nat) : narrow (.array t) (va_rf o) = va_rf o := by cases o <;> rfl
theorem fit_ro (C : String) (o : Option Nat) : fits (.object C) (va_rf o) = true := by cases o <;> rfl
theorem fit_ra (t : FieldType) (o : Option Nat) : fits (.array t) (va_rf o) = true := by cases o <;> rfl
theorem pw_pre_rf {L : List (Option Value)} {j : Nat} {o : Option Nat} (h : L[j]? = some (some (va_rf o))) : pw_pre L (j + 1) = true := by
  simp only [pw_pre, h]
  cases o <;> rfl
theorem pw_eqL {E : pw_E} {M : pw_M} {d pc : Nat} {L L' : List (Option Value)} {st : List Value} {w : pw_W} {Post : pw_R → pw_W → Prop} (h : L = L') (k : pw_Wp E M d pc L' st w Post) : pw_Wp E M d pc L st w Post := h ▸ k
theorem f_it {c : Prop} [Decidable c] {A B : Prop} (h : if c then A else B) (hc : c) : A := by rw [if_pos hc] at h; exact h
theorem f_if {c : Prop} [Decidable c] {A B : Prop} (h : if c then A else B) (hc : ¬ c) : B := by rw [if_neg hc] at h; exact h
/-- the answer as a boolean -/
def c_z (K : Bool → pw_W → Prop) : pw_R → pw_W → Prop := fun r w => ∃ b : Bool, r = .inl (some (.int (bI b))) ∧ K b w
theorem pw_nx_z {E : pw_E} {M : pw_M} {d pc len : Nat} {L : List (Option Value)} {st : List Value} {Post : pw_R → pw_W → Prop} {K : Bool → pw_W → Prop} (h : ∀ x w, K x w → pw_Wp E M d (pc + len) L (.int (bI x) :: st) w Post) : ∀ r w, c_z K r w → pw_nx E M d pc len L st Post r w := by
  rintro r w ⟨x, rfl, k⟩
  exact h x w k
def f_geti (w : pw_W) (o : Option Nat) (k j : Nat) (K : Int32 → Prop) : Prop := ∃ (a : Nat) (fs : List Value) (x : Int32), o = some a ∧ w.1 a = some (k, fs) ∧ fs[j]? = some (.int x) ∧ K x
def f_getr (w : pw_W) (o : Option Nat) (k j : Nat) (K : Option Nat → Prop) : Prop := ∃ (a : Nat) (fs : List Value) (x : Option Nat), o = some a ∧ w.1 a = some (k, fs) ∧ fs[j]? = some (va_rf x) ∧ K x
def f_getl (w : pw_W) (o : Option Nat) (k j : Nat) (K : Int64 → Prop) : Prop := ∃ (a : Nat) (fs : List Value) (x : Int64), o = some a ∧ w.1 a = some (k, fs) ∧ fs[j]? = some (.long x) ∧ K x
def f_put (E : pw_E) (w : pw_W) (o : Option Nat) (k j : Nat) (v : Value) (K : pw_W → Prop) : Prop := ∃ (a : Nat) (fs : List Value), o = some a ∧ w.1 a = some (k, fs) ∧ pw_base E ≤ a ∧ K (pw_up w a (k, fs.set j v))
def f_aldi (w : pw_W) (o : Option Nat) (i : Int32) (K : Int32 → Prop) : Prop := ∃ (a t : Nat) (vs : List Value) (x : Int32), o = some a ∧ w.1 a = some (1000 + t, vs) ∧ pw_ar[t]? = some .int ∧ ¬ i < 0 ∧ vs[i.toNatClampNeg]? = some (.int x) ∧ K x
def f_aldb (w : pw_W) (o : Option Nat) (i : Int32) (K : Int32 → Prop) : Prop := ∃ (a : Nat) (vs : List Value) (x : Int32), o = some a ∧ w.1 a = some (1001, vs) ∧ ¬ i < 0 ∧ vs[i.toNatClampNeg]? = some (.int x) ∧ K x
def f_aldz (w : pw_W) (o : Option Nat) (i : Int32) (K : Int32 → Prop) : Prop := ∃ (a : Nat) (vs : List Value) (x : Int32), o = some a ∧ w.1 a = some (1002, vs) ∧ ¬ i < 0 ∧ vs[i.toNatClampNeg]? = some (.int x) ∧ K x
def f_aldr (w : pw_W) (o : Option Nat) (i : Int32) (K : Option Nat → Prop) : Prop := ∃ (a t : Nat) (ty : FieldType) (vs : List Value) (x : Option Nat), o = some a ∧ w.1 a = some (1000 + t, vs) ∧ pw_ar[t]? = some ty ∧ ty.isReference = true ∧ ¬ i < 0 ∧ vs[i.toNatClampNeg]? = some (va_rf x) ∧ K x
def f_len (w : pw_W) (o : Option Nat) (K : Int32 → Prop) : Prop := ∃ (a t : Nat) (ty : FieldType) (vs : List Value), o = some a ∧ w.1 a = some (1000 + t, vs) ∧ pw_ar[t]? = some ty ∧ K (Int32.ofNat vs.length)
def f_asti (E : pw_E) (w : pw_W) (o : Option Nat) (i x : Int32) (K : pw_W → Prop) : Prop := ∃ (a : Nat) (vs : List Value), o = some a ∧ w.1 a = some (1000, vs) ∧ pw_base E ≤ a ∧ ¬ i < 0 ∧ i.toNatClampNeg < vs.length ∧ K (pw_up w a (1000, vs.set i.toNatClampNeg (.int x)))
def f_astb (E : pw_E) (w : pw_W) (o : Option Nat) (i x : Int32) (K : pw_W → Prop) : Prop := ∃ (a : Nat) (vs : List Value), o = some a ∧ w.1 a = some (1001, vs) ∧ pw_base E ≤ a ∧ ¬ i < 0 ∧ i.toNatClampNeg < vs.length ∧ K (pw_up w a (1001, vs.set i.toNatClampNeg (.int x.toInt8.toInt32)))
def f_astz (E : pw_E) (w : pw_W) (o : Option Nat) (i x : Int32) (K : pw_W → Prop) : Prop := ∃ (a : Nat) (vs : List Value), o = some a ∧ w.1 a = some (1002, vs) ∧ pw_base E ≤ a ∧ ¬ i < 0 ∧ i.toNatClampNeg < vs.length ∧ narrow .boolean (.int x) = .int x ∧ K (pw_up w a (1002, vs.set i.toNatClampNeg (.int x)))
def f_astr (E : pw_E) (w : pw_W) (o : Option Nat) (i : Int32) (v : Option Nat) (K : pw_W → Prop) : Prop := ∃ (a t : Nat) (C : String) (vs : List Value), o = some a ∧ w.1 a = some (1000 + t, vs) ∧ pw_ar[t]? = some (.object C) ∧ t < 6 ∧ pw_base E ≤ a ∧ ¬ i < 0 ∧ i.toNatClampNeg < vs.length ∧ pw_ok1 w C v ∧ K (pw_up w a (1000 + t, vs.set i.toNatClampNeg (va_rf v)))
/-- a new array of kind 1000 + t -/
def f_newa (w : pw_W) (t : Nat) (n : Int32) (z : Value) (K : pw_W → Prop) : Prop := ¬ n < 0 ∧ n.toNatClampNeg ≤ 100000000 ∧ K (pw_new w (1000 + t, List.replicate n.toNatClampNeg z) n.toNatClampNeg)
def f_cast (w : pw_W) (o : Option Nat) (nm : String) (K : Prop) : Prop := pw_ok1 w nm o ∧ K
def f_inst (w : pw_W) (o : Option Nat) (nm : String) (K : Bool → Prop) : Prop := (o = none ∧ K false) ∨ ∃ (b k : Nat) (us : List Value) (r : vw_C), o = some b ∧ w.1 b = some (k, us) ∧ pw_cl[k]? = some r ∧ r.1 = nm ∧ K true
/-- a call through an object of kind k -/
def f_V (E : pw_E) (w : pw_W) (o : Option Nat) (k : Nat) (M : pw_M) (d : Nat) (av : List Value) (K : pw_R → pw_W → Prop) : Prop := ∃ (a : Nat) (us : List Value), o = some a ∧ w.1 a = some (k, us) ∧ pw_Cl E M d (va_rf (some a) :: av) w K
theorem pw_up_up (w : pw_W) (a : Nat) (o p : pw_O) : pw_up (pw_up w a o) a p = pw_up w a p := by
  unfold pw_up
  congr 1
  funext q
  by_cases h : q = a <;> simp [h]
theorem pw_up_new (w : pw_W) (o p : pw_O) (n : Nat) : pw_up (pw_new w o n) w.2.1 p = pw_new w p n := by
  unfold pw_up pw_new
  congr 1
  funext q
  by_cases h : q = w.2.1 <;> simp [h]
theorem pw_up_1 (w : pw_W) (a : Nat) (o : pw_O) : (pw_up w a o).1 a = some o := by simp [pw_up]
theorem pw_up_ne {w : pw_W} {a b : Nat} {o : pw_O} (h : b ≠ a) : (pw_up w a o).1 b = w.1 b := by simp [pw_up, h]
theorem pw_up_2 (w : pw_W) (a : Nat) (o : pw_O) : (pw_up w a o).2 = w.2 := rfl
theorem pw_new_1 (w : pw_W) (o : pw_O) (n : Nat) : (pw_new w o n).1 w.2.1 = some o := by simp [pw_new]
theorem pw_new_ne {w : pw_W} {b : Nat} {o : pw_O} {n : Nat} (h : b ≠ w.2.1) : (pw_new w o n).1 b = w.1 b := by simp [pw_new, h]
section
variable {E : pw_E} {M : pw_M} {d pc : Nat} {L : List (Option Value)} {st : List Value} {w : pw_W} {Post : pw_R → pw_W → Prop}
theorem r_lookup {x : Int32} {dflt : Int} {ps : Array (Int × Int)} {len : Nat} (hd : decode M.2.1 pc = .ok (.lookupswitch dflt ps, len)) (hp : (ps.toList.zip (ps.toList.drop 1)).all (fun (a, next) => a.1 < next.1) = true) (off : Int) (ho : Op.lookupswitch.offset ps.toList dflt x.toInt = off) (tgt : Nat) (ht : (pc : Int) + off = (tgt : Int)) (k : pw_Wp E M d tgt L st w Post) : pw_Wp E M d pc L (.int x :: st) w Post :=
  pw_go (fun p e R s m args below meth c H locs cells slots ls Q hC _ _ hH hL kk => lv_lookup hC.1 hC.2.1 hd hp ho ht (kk ls hL)) k
theorem pw_big {n : Nat} {a : ArrayType} (h : n ≤ 100000000) (hb : componentBytes (newarray.typeOf a) ≤ 4) : n * componentBytes (newarray.typeOf a) ≤ 536870912 := by
  have := Nat.mul_le_mul h hb
  omega
end
