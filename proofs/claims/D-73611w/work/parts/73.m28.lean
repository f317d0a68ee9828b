set_option maxRecDepth 100000
/-! the twin: changes are drawn -/
def d_next (s : Int) : Int := s * 1103515245 + 12345
def d_hi (s : Int) : Int32 := ((iI (d_next s)).toUInt32 >>> ((16 : Int32).toUInt32 &&& Int32.toUInt32 31)).toInt32
def d_val (s n : Int) : Int := Int32.toInt (d_hi s - d_hi s / iI n * iI n)
theorem d_hi_r (s : Int) : 0 ≤ (d_hi s).toInt ∧ (d_hi s).toInt < 65536 := by
  unfold d_hi
  have e : ((16 : Int32).toUInt32 &&& Int32.toUInt32 31) = 16 := by decide
  rw [e]
  have hu : ((iI (d_next s)).toUInt32 >>> 16).toNat < 65536 := by
    rw [UInt32.toNat_shiftRight]
    have := (iI (d_next s)).toUInt32.toNat_lt
    show _ >>> 16 < 65536
    rw [Nat.shiftRight_eq_div_pow]
    omega
  generalize (iI (d_next s)).toUInt32 >>> 16 = u at *
  have e2 : u.toInt32.toInt = u.toBitVec.toInt := rfl
  have hn : u.toBitVec.toNat = u.toNat := rfl
  rw [e2, BitVec.toInt_eq_toNat_of_lt (by omega)]
  omega
theorem d_val_r {s n : Int} (hn : 0 < n ∧ n < 1000) : 0 ≤ d_val s n ∧ d_val s n < n := by
  have h := d_hi_r s
  unfold d_val
  have e : d_hi s = iI (d_hi s).toInt := (iI_of _).symm
  generalize (d_hi s).toInt = z at *
  rw [e]
  have e1 : iI z / iI n = iI (z / n) := by
    apply Int32.toInt_inj.mp
    have : z / n ≤ z := Int.ediv_le_self _ h.1
    have h0 : 0 ≤ z / n := Int.ediv_nonneg h.1 (by omega)
    rw [Int32.toInt_div, iI_toInt (by constructor <;> omega), iI_toInt (by constructor <;> omega), iI_toInt (by constructor <;> omega)]
    rw [Int.tdiv_eq_ediv_of_nonneg h.1, Int.bmod_def]
    omega
  rw [e1, iI_mul, iI_sub]
  have h2 : z - z / n * n = z % n := by
    have := Int.emod_def z n
    rw [Int.mul_comm] at this
    omega
  rw [h2]
  have h3 := Int.emod_nonneg z (show n ≠ 0 by omega)
  have h4 := Int.emod_lt_of_pos z hn.1
  rw [iI_toInt (by constructor <;> omega)]
  exact ⟨h3, h4⟩
def d_firstF (A : Nat → Int) (d : Int) : Nat → Nat → Int
  | 0, _ => -1
  | f + 1, t => if a_whose A t = d then t else d_firstF A d f (t + 1)
def d_first (A : Nat → Int) (d : Int) : Int := d_firstF A d (A 5).toNat 0
theorem d_firstF_r (A : Nat → Int) (d : Int) : ∀ f t : Nat, d_firstF A d f t = -1 ∨ (0 ≤ d_firstF A d f t ∧ d_firstF A d f t < t + f)
  | 0, _ => Or.inl rfl
  | f + 1, t => by
    unfold d_firstF
    split
    · exact Or.inr ⟨by omega, by omega⟩
    · rcases d_firstF_r A d f (t + 1) with h | h
      · exact Or.inl h
      · exact Or.inr ⟨h.1, by omega⟩
def d_toks (A : Nat → Int) (d : Int) : Int := upto (A 5).toNat (fun t n => if a_whose A t = d then n + 1 else n + 0) 0
def d_what (s : Int) : Int := d_val (d_next s) 6
def d_doc (A : Nat → Int) (s : Int) : Int := d_val s (A 0)
/-- one change is drawn: the archive, the seed -/
def d_chgA (A : Nat → Int) (s date : Int) : Nat → Int :=
  if d_what s = 5 then g_makes A 3 (d_doc A s) (d_val (d_next (d_next s)) (a_many A (d_doc A s))) 0 [] date
  else if d_what s = 2 ∨ d_what s = 3 then (if d_first A (d_doc A s) = -1 then A else g_makes A 0 (d_doc A s) (d_val (d_next (d_next s)) (a_long A (d_doc A s) (a_many A (d_doc A s) - 1) + 1)) 0 [a_word A (d_first A (d_doc A s))] date)
  else if a_long A (d_doc A s) (a_many A (d_doc A s) - 1) = 0 then A else if d_what s < 2 then g_makes A 1 (d_doc A s) (d_val (d_next (d_next s)) (a_long A (d_doc A s) (a_many A (d_doc A s) - 1))) 1 [] date
  else g_makes A 2 (d_doc A s) (d_val (d_next (d_next s)) (a_long A (d_doc A s) (a_many A (d_doc A s) - 1))) (d_val (d_next (d_next (d_next s))) (a_long A (d_doc A s) (a_many A (d_doc A s) - 1))) [] date
def d_chgS (A : Nat → Int) (s : Int) : Int :=
  if d_what s = 5 then d_next (d_next (d_next s))
  else if d_what s = 2 ∨ d_what s = 3 then (if d_first A (d_doc A s) = -1 then d_next (d_next s) else d_next (d_next (d_next s)))
  else if a_long A (d_doc A s) (a_many A (d_doc A s) - 1) = 0 then d_next (d_next s) else if d_what s = 4 then d_next (d_next (d_next (d_next s))) else d_next (d_next (d_next s))
theorem g_makeF_irr {c d old len r1 r2 r2' : Int} {ws ws' : List Int} (h : c ≠ 1) (hw : c = 0 → ws = ws') : ∀ (f p : Nat) (A : Nat → Int), g_makeF c d old len r1 r2 ws f p A = g_makeF c d old len r1 r2' ws' f p A := by
  intro f
  induction f with
  | zero => intro p A; rfl
  | succ f ih =>
    intro p A
    show g_makeF c d old len r1 r2 ws f (p + 1) (g_old1 c d old len r1 r2 p (g_ins1 c d r1 ws p A)) = g_makeF c d old len r1 r2' ws' f (p + 1) (g_old1 c d old len r1 r2' p (g_ins1 c d r1 ws' p A))
    rw [ih]
    have e1 : g_ins1 c d r1 ws p A = g_ins1 c d r1 ws' p A := by
      unfold g_ins1
      by_cases h0 : c = 0
      · rw [hw h0]
      · rw [if_neg (fun q => h0 q.1), if_neg (fun q => h0 q.1)]
    rw [e1]
    have e2 : ∀ B, g_old1 c d old len r1 r2 p B = g_old1 c d old len r1 r2' p B := by
      intro B
      unfold g_old1
      by_cases h9 : len ≤ (p : Int)
      · rw [if_pos (Or.inr h9), if_pos (Or.inr h9)]
      · rw [if_neg (by rintro (q | q); exact h q.1; exact h9 q), if_neg (by rintro (q | q); exact h q.1; exact h9 q)]
    rw [e2]
theorem g_makes_irr {A : Nat → Int} {c r0 r1 r2 r2' date : Int} {ws ws' : List Int} (h1 : c ≠ 1) (h2 : c ≠ 2) (hw : c = 0 → ws = ws') : g_makes A c r0 r1 r2 ws date = g_makes A c r0 r1 r2' ws' date := by
  have e1 : g_there A c r0 r1 r2 = g_there A c r0 r1 r2' := by
    unfold g_there
    rw [if_neg h1, if_neg h1, if_neg h2, if_neg h2]
  have e2 : g_make A c r0 r1 r2 ws date = g_make A c r0 r1 r2' ws' date := by
    unfold g_make
    rw [if_neg h2, if_neg h2]
    exact g_makeF_irr h1 hw _ _ _
  unfold g_makes
  rw [e1, e2]
theorem g_make_irw {A : Nat → Int} {c r0 r1 r2 date : Int} {ws ws' : List Int} (h : c ≠ 0) : g_makes A c r0 r1 r2 ws date = g_makes A c r0 r1 r2 ws' date := by
  have e : ∀ (old len : Int) (f p : Nat) (B : Nat → Int), g_makeF c r0 old len r1 r2 ws f p B = g_makeF c r0 old len r1 r2 ws' f p B := by
    intro old len f
    induction f with
    | zero => intro p B; rfl
    | succ f ih =>
      intro p B
      show g_makeF c r0 old len r1 r2 ws f (p + 1) (g_old1 c r0 old len r1 r2 p (g_ins1 c r0 r1 ws p B)) = g_makeF c r0 old len r1 r2 ws' f (p + 1) (g_old1 c r0 old len r1 r2 p (g_ins1 c r0 r1 ws' p B))
      rw [ih]
      have e1 : g_ins1 c r0 r1 ws p B = g_ins1 c r0 r1 ws' p B := by
        unfold g_ins1
        rw [if_neg (fun q => h q.1), if_neg (fun q => h q.1)]
      rw [e1]
  unfold g_makes g_make
  simp only [e]
/-- what stays so while changes are drawn -/
def d_ok (A : Nat → Int) (k : Nat) : Prop := g_val A ∧ (∀ d, 0 ≤ d → d < A 0 → 1 ≤ a_many A d) ∧ A 5 ≤ 279 + k ∧ 1 ≤ A 0
theorem g_makes_d {A : Nat → Int} {c r0 r1 r2 date : Int} {ws : List Int} {k : Nat} (h : d_ok A k) (hk : k < 40) (hr : 0 ≤ r0 ∧ r0 < A 0) (hc : 0 ≤ c ∧ c ≤ 3) (h1 : 0 ≤ r1) (h2 : c = 1 ∨ c = 2 → 0 ≤ r2) (hl : ws.length ≤ 1) (hws : ∀ w ∈ ws, 1 ≤ w ∧ w < 531441) (hdate : rI date) : d_ok (g_makes A c r0 r1 r2 ws date) (k + 1) ∧ g_makes A c r0 r1 r2 ws date 0 = A 0 := by
  obtain ⟨v, f, n, z⟩ := h
  have hm := v.1.2.1 r0 hr.1 (by have := v.2.1; omega)
  have same : d_ok A (k + 1) ∧ A 0 = A 0 := ⟨⟨v, f, by omega, z⟩, rfl⟩
  unfold g_makes
  split
  · exact same
  · split
    · rename_i h10 ht
      have go : (c = 0 → a_long A r0 (a_many A r0 - 1) < 20) → d_ok (g_make A c r0 r1 r2 ws date) (k + 1) ∧ g_make A c r0 r1 r2 ws date 0 = A 0 := by
        intro hlen
        obtain ⟨y1, y2, y3, y4⟩ := g_make_val (date := date) (ws := ws) v (fun _ => by omega) hr ⟨f r0 hr.1 hr.2, by omega⟩ hc h1 h2 ht (fun h => by have := hlen h; omega) hws hdate
        refine ⟨⟨y1, fun e he0 he1 => ?_, ?_, by omega⟩, y3⟩
        · rw [y3] at he1
          have := v.2.1
          rw [y4 e he0 (by omega)]
          split
          · omega
          · exact f e he0 he1
        · rw [y2]
          split <;> omega
      split
      · split
        · exact same
        · rename_i h20
          refine go (fun _ => ?_)
          have : A (Int.toNat (46 + g_last A r0)) = a_long A r0 (a_many A r0 - 1) := rfl
          omega
      · rename_i h0
        exact go (fun h => absurd h h0)
    · exact same
section
variable {E : pw_E} {w0 : pw_W} {m d : Nat} {S : tw_S}
theorem m_draw_ok {n : Int} {K : Int → tw_S → Prop} (hm : pw_base E ≤ m) (hd : 1 ≤ d) (hn : 0 < n ∧ n < 1000) (H : K (d_val (S.1 35) n) (tw_sf S 35 (d_next (S.1 35)))) : pw_Cl E m_X2_draw d [va_rf (some m), .int (iI n)] (tw w0 m S) (c_i (t_i w0 m K)) := by
  obtain ⟨e, rfl, he⟩ := pw_d1 hd
  exact e_X2_draw _ _ (t_X2_draw_0 hm _ ⟨rI_small (by omega) (by omega), by omega, _, rfl, _, _, rfl, rfl, H⟩)
theorem m_firstToken_ok {a : Int} {K : Int → tw_S → Prop} (hm : pw_base E ≤ m) (hd : 1 ≤ d) (ha : rI a) (hA : 0 ≤ S.2.2 9 5 ∧ S.2.2 9 5 ≤ 320) (hw : ∀ t : Int, 0 ≤ t → t < S.2.2 9 5 → 0 ≤ a_whose (S.2.2 9) t ∧ a_whose (S.2.2 9) t < 4) (H : K (d_first (S.2.2 9) a) S) : pw_Cl E m_X2_firstToken d [va_rf (some m), .int (iI a)] (tw w0 m S) (c_i (t_i w0 m K)) := by
  obtain ⟨e, rfl, he⟩ := pw_d1 hd
  have loop : ∀ (f t : Nat), (t : Int) + f = S.2.2 9 5 → K (d_firstF (S.2.2 9) a f t) S → pw_Wp E m_X2_firstToken (e + 1) 2 [some (va_rf (some m)), some (.int (iI a)), some (.int (iI t))] [] (tw w0 m S) (c_i (t_i w0 m K)) := by
    intro f
    induction f with
    | zero =>
      intro t ht H
      exact t_X2_firstToken_2 hm _ _ ⟨rI_small (by omega) (by omega), rI_small (by omega) (by omega), ifT (by omega) ⟨_, rfl, _, _, rfl, rfl, H⟩⟩
    | succ f ih =>
      intro t ht H
      have := hw t (by omega) (by omega)
      refine t_X2_firstToken_2 hm _ _ ⟨rI_small (by omega) (by omega), rI_small (by omega) (by omega), ifF (by omega) ⟨by omega, by omega, ?_, ha, ?_⟩⟩
      · exact rI_small (x := a_whose (S.2.2 9) t) (by omega) (by omega)
      · unfold d_firstF at H
        exact ifS2 H (fun h H => ⟨_, rfl, _, _, rfl, rfl, H⟩) (fun h H => ih (t + 1) (by omega) H)
  exact e_X2_firstToken _ _ (t_X2_firstToken_0 hm _ (loop (S.2.2 9 5).toNat 0 (by omega) H))
theorem m_tokensOf_ok {a : Int} {K : Int → tw_S → Prop} (hm : pw_base E ≤ m) (hd : 1 ≤ d) (ha : rI a) (hA : 0 ≤ S.2.2 9 5 ∧ S.2.2 9 5 ≤ 320) (hw : ∀ t : Int, 0 ≤ t → t < S.2.2 9 5 → 0 ≤ a_whose (S.2.2 9) t ∧ a_whose (S.2.2 9) t < 4) (H : K (d_toks (S.2.2 9) a) S) : pw_Cl E m_X2_tokensOf d [va_rf (some m), .int (iI a)] (tw w0 m S) (c_i (t_i w0 m K)) := by
  obtain ⟨e, rfl, he⟩ := pw_d1 hd
  refine e_X2_tokensOf _ _ (t_X2_tokensOf_0 hm _ (loop_up (n := (S.2.2 9 5).toNat) (P := fun k => pw_Wp E m_X2_tokensOf (e + 1) 4 [some (va_rf (some m)), some (.int (iI a)), some (.int (iI (upto k (fun t n => if a_whose (S.2.2 9) t = a then n + 1 else n + 0) 0))), some (.int (iI k))] [] (tw w0 m S) (c_i (t_i w0 m K))) ?_ ?_ 0 (by omega)))
  · intro t ht ih
    have := hw t (by omega) (by omega)
    refine t_X2_tokensOf_4 hm _ _ _ ⟨rI_small (by omega) (by omega), rI_small (by omega) (by omega), ifF (by omega) ⟨by omega, by omega, ?_, ha, ?_⟩⟩
    · exact rI_small (x := a_whose (S.2.2 9) t) (by omega) (by omega)
    · have e2 : S.2.2 9 (Int.toNat (1206 + t)) = a_whose (S.2.2 9) t := rfl
      rw [upto_s] at ih
      rw [e2]
      by_cases h : a_whose (S.2.2 9) t = a
      · rw [if_pos h] at ih ⊢
        exact ih
      · rw [if_neg h] at ih ⊢
        exact ih
  · exact t_X2_tokensOf_4 hm _ _ _ ⟨rI_small (by omega) (by omega), rI_small (by omega) (by omega), ifT (by omega) ⟨_, rfl, _, _, rfl, rfl, H⟩⟩
theorem m_wordAt_n {n a v k : Int} {K : Int → tw_S → Prop} (hm : pw_base E ≤ m) (hA : a_ok (S.2.2 9) n) (hd : 3 ≤ d) (ha : 0 ≤ a ∧ a < 4) (hv : 0 ≤ v ∧ v < a_many (S.2.2 9) a) (hk : 0 ≤ k ∧ k < a_long (S.2.2 9) a v) (H : K (a_wordAt (S.2.2 9) a v k) S) : pw_Cl E m_X2_wordAt d [va_rf (some m), .int (iI a), .int (iI v), .int (iI k)] (tw w0 m S) (c_i (t_i w0 m K)) := by
  obtain ⟨e, rfl, he⟩ := pw_d1 hd
  have hv10 := (hA.2.2.1 a ha.1 ha.2).2
  have hl := hA.2.2.2.1 a v ha.1 ha.2 hv.1 (by omega)
  have ht := hA.2.2.2.2.1 a v k ha.1 ha.2 hv.1 hv.2 hk.1 hk.2
  have hn := hA.2.1
  exact e_X2_wordAt _ _ _ _ (t_X2_wordAt_0 hm _ _ _ (m_tokenAt_ok hm (by omega) ha ⟨hv.1, by omega⟩ ⟨hk.1, by omega⟩ (m_wordOf_ok hm (by omega) ⟨by omega, by omega⟩ ⟨_, rfl, _, _, rfl, rfl, H⟩)))
end
