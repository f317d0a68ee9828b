set_option maxRecDepth 100000
/-! the component: documents: rows of tokens' numbers, tokens' words, dates -/
abbrev dc : Type := List (List Nat) × List (List Int) × List Int
def dc_row (D : dc) (v : Nat) : List Nat := D.1.getD v []
def dc_len (D : dc) (v : Nat) : Nat := (dc_row D v).length
def dc_w (D : dc) (v p : Nat) : List Int := D.2.1.getD ((dc_row D v).getD p 0) []
/-- the versions that a token is in -/
def dc_set (R : List (List Nat)) (j : Nat) : Int := upto R.length (fun v s => if j ∈ R.getD v [] then s_or s (s_bit v) else s) 0
def dc_ok (D : dc) : Prop := (∀ row ∈ D.1, ∀ j ∈ row, j < D.2.1.length) ∧ D.1.length = D.2.2.length ∧ D.1.length ≤ 1000 ∧ D.2.1.length ≤ 1000 ∧ (∀ row ∈ D.1, row.length ≤ 1000) ∧ ∀ t ∈ D.2.2, 0 ≤ t ∧ t ≤ 1000
def c_ints (h : pw_H) (r : Nat) (row : List Nat) : Prop := h r = some (1000, row.map (fun j => Value.int (iI (j : Nat))))
def c_box (h : pw_H) (b : Nat) (x : Int) : Prop := h b = some (28, [.int (iI x)])
def c_tok (z p : pw_H) (t : Nat) (s : List Int) (x : Int) : Prop := ∃ c : Nat, p t = some (7, [va_rf (some c), .int (iI x)]) ∧ c_str z c s
def c_doc (E : pw_E) (z p : pw_H) (a : Nat) (D : dc) : Prop :=
  ∃ (lv bv cv : Nat) (mv : Int32) (lt bt ct : Nat) (mt : Int32) (ld bd cd : Nat) (md : Int32) (rs ts ds : List Nat),
    p a = some (6, [va_rf (some lv), va_rf (some lt), va_rf (some ld)]) ∧
    c_al E p lv mv bv cv (rs.map some) ∧ c_al E p lt mt bt ct (ts.map some) ∧ c_al E p ld md bd cd (ds.map some) ∧
    (rs.length = D.1.length ∧ ∀ (v r : Nat) (row : List Nat), rs[v]? = some r → D.1[v]? = some row → c_ints z r row) ∧
    (ts.length = D.2.1.length ∧ ∀ (j t : Nat) (s : List Int), ts[j]? = some t → D.2.1[j]? = some s → c_tok z p t s (dc_set D.1 j)) ∧
    (ds.length = D.2.2.length ∧ ∀ (i b : Nat) (x : Int), ds[i]? = some b → D.2.2[i]? = some x → c_box z b x) ∧
    (pw_base E ≤ a ∧ ts.Nodup ∧ (∀ t ∈ ts, pw_base E ≤ t) ∧ lv ≠ lt ∧ lv ≠ ld ∧ lt ≠ ld ∧ bv ≠ bt ∧ bv ≠ bd ∧ bt ≠ bd) ∧
    2 * cv ≤ 3 * rs.length + 20 ∧ 2 * ct ≤ 3 * ts.length + 20 ∧ 2 * cd ≤ 3 * ds.length + 20
theorem c_tok.mono {z p z' p' : pw_H} {t : Nat} {s : List Int} {x : Int} (k : c_tok z p t s x) (hz : c_sub z z') (hp : c_sub p p') : c_tok z' p' t s x := by
  obtain ⟨c, h1, h2⟩ := k
  exact ⟨c, hp _ _ h1, h2.mono hz⟩
theorem c_doc.mono {E : pw_E} {z p z' p' : pw_H} {a : Nat} {D : dc} (k : c_doc E z p a D) (hz : c_sub z z') (hp : c_sub p p') : c_doc E z' p' a D := by
  obtain ⟨lv, bv, cv, mv, lt, bt, ct, mt, ld, bd, cd, md, rs, ts, ds, h1, h2, h3, h4, ⟨h5, h6⟩, ⟨h7, h8⟩, ⟨h9, h10⟩, h11⟩ := k
  exact ⟨lv, bv, cv, mv, lt, bt, ct, mt, ld, bd, cd, md, rs, ts, ds, hp _ _ h1, h2.mono hp, h3.mono hp, h4.mono hp, ⟨h5, fun v r row e f => hz _ _ (h6 v r row e f)⟩, ⟨h7, fun j t s e f => (h8 j t s e f).mono hz hp⟩, ⟨h9, fun i b x e f => hz _ _ (h10 i b x e f)⟩, h11⟩
theorem c_doc.base {E : pw_E} {z p : pw_H} {a : Nat} {D : dc} (k : c_doc E z p a D) : pw_base E ≤ a := by
  obtain ⟨lv, bv, cv, mv, lt, bt, ct, mt, ld, bd, cd, md, rs, ts, ds, h1, h2, h3, h4, h5, h6, h7, ⟨h8, -⟩, -⟩ := k
  exact h8
theorem c_doc.obj {E : pw_E} {z p : pw_H} {a : Nat} {D : dc} (k : c_doc E z p a D) : ∃ us, p a = some (6, us) := by
  obtain ⟨lv, bv, cv, mv, lt, bt, ct, mt, ld, bd, cd, md, rs, ts, ds, h1, -⟩ := k
  exact ⟨_, h1⟩
theorem dc_get {α : Type} {l : List α} {i : Nat} (h : i < l.length) : ∃ x, l[i]? = some x := ⟨_, List.getElem?_eq_getElem h⟩
theorem dc_map {l : List Nat} {i : Nat} (h : i < l.length) : ∃ r, l[i]? = some r ∧ (l.map some)[i]? = some (some r) := by
  refine ⟨l[i], List.getElem?_eq_getElem h, ?_⟩
  rw [List.getElem?_map, List.getElem?_eq_getElem h]
  rfl
theorem dc_getD {α : Type} {l : List α} {i : Nat} {x y : α} (h : l[i]? = some x) : l.getD i y = x := by
  rw [List.getD_eq_getElem?_getD, h]
  rfl
theorem c_canI : pw_can 1000 "[I" := Or.inr ⟨0, _, rfl, by omega, rfl, Or.inl rfl⟩
theorem c_canT : pw_can 7 "VersionSearch$Token" := Or.inl ⟨_, rfl, by decide, Or.inl rfl⟩
theorem c_canN : pw_can 28 "java/lang/Integer" := Or.inl ⟨_, rfl, by decide, Or.inl rfl⟩
theorem c_canD : pw_can 6 "VersionSearch$Document" := Or.inl ⟨_, rfl, by decide, Or.inl rfl⟩
section
variable {E : pw_E} {d : Nat} {w : pw_W} {a : Nat} {D : dc}
/-- the row of a version, read -/
theorem dq_row {e v : Nat} {row : List Nat} {K : Option Nat → pw_W → Prop} (hd : 3 ≤ e) (h : c_doc E w.1 w.1 a D) (hv : D.1[v]? = some row) (H : ∀ r : Nat, c_ints w.1 r row → K (some r) w) :
    f_getr w (some a) 6 0 (fun x1 => f_V E w x1 18 m_J2_get e [.int (iI v)] (c_r (fun o6 w5 => f_cast w5 o6 "[I" (K o6 w5)))) := by
  obtain ⟨lv, bv, cv, mv, lt, bt, ct, mt, ld, bd, cd, md, rs, ts, ds, h1, h2, h3, h4, ⟨h5, h6⟩, -⟩ := h
  have hl := (List.getElem?_eq_some_iff.mp hv).1
  obtain ⟨r, r1, r2⟩ := dc_map (l := rs) (i := v) (by omega)
  have hr := h6 v r row r1 hv
  exact ⟨a, _, _, rfl, h1, rfl, lv, _, rfl, h2.1, cl_get_ok hd h2 r2 ⟨Or.inr ⟨r, 1000, _, rfl, hr, c_canI⟩, H r hr⟩⟩
/-- a token, read -/
theorem dq_tok {e j : Nat} {s : List Int} {K : Option Nat → pw_W → Prop} (hd : 3 ≤ e) (h : c_doc E w.1 w.1 a D) (hj : D.2.1[j]? = some s) (H : ∀ t c : Nat, w.1 t = some (7, [va_rf (some c), .int (iI (dc_set D.1 j))]) → c_str w.1 c s → K (some t) w) :
    f_getr w (some a) 6 1 (fun x1 => f_V E w x1 18 m_J2_get e [.int (iI j)] (c_r (fun o6 w5 => f_cast w5 o6 "VersionSearch$Token" (K o6 w5)))) := by
  obtain ⟨lv, bv, cv, mv, lt, bt, ct, mt, ld, bd, cd, md, rs, ts, ds, h1, h2, h3, h4, h5, ⟨h7, h8⟩, -⟩ := h
  have hl := (List.getElem?_eq_some_iff.mp hj).1
  obtain ⟨r, r1, r2⟩ := dc_map (l := ts) (i := j) (by omega)
  obtain ⟨c, c1, c2⟩ := h8 j r s r1 hj
  exact ⟨a, _, _, rfl, h1, rfl, lt, _, rfl, h3.1, cl_get_ok hd h3 r2 ⟨Or.inr ⟨r, 7, _, rfl, c1, c_canT⟩, H r c c1 c2⟩⟩
theorem cd_many_ok {K : Int32 → pw_W → Prop} (hd : 2 ≤ d) (h : c_doc E w.1 w.1 a D) (H : K (iI D.1.length) w) : pw_Cl E m_X7_many d [va_rf (some a)] w (c_i K) := by
  replace hd := pw_d1 hd; obtain ⟨e, rfl, hd⟩ := hd
  obtain ⟨lv, bv, cv, mv, lt, bt, ct, mt, ld, bd, cd, md, rs, ts, ds, h1, h2, h3, h4, ⟨h5, h6⟩, -⟩ := h
  refine e_X7_many _ (s_X7_many_0 _ ⟨a, _, _, rfl, h1, rfl, lv, _, rfl, h2.1, cl_size_ok hd h2 ⟨_, rfl, ?_⟩⟩)
  rw [List.length_map, h5]
  exact H
theorem dq_many {e : Nat} {K : Int32 → pw_W → Prop} (hd : 2 ≤ e) (h : c_doc E w.1 w.1 a D) (H : K (iI D.1.length) w) : f_V E w (some a) 6 m_X7_many e [] (c_i K) := by
  obtain ⟨us, hu⟩ := h.obj
  exact ⟨a, us, rfl, hu, cd_many_ok hd h H⟩
theorem cd_is_ok {v : Int} {K : Bool → pw_W → Prop} (hd : 3 ≤ d) (h : c_doc E w.1 w.1 a D) (hD : dc_ok D) (hv : rI v) (H : K (decide (0 ≤ v ∧ v ≤ (D.1.length : Int) - 1)) w) : pw_Cl E m_X7_is d [va_rf (some a), .int (iI v)] w (c_z K) := by
  replace hd := pw_d1 hd; obtain ⟨e, rfl, hd⟩ := hd
  have hn := hD.2.2.1
  refine e_X7_is _ _ (s_X7_is_0 _ _ (dq_many hd h ?_))
  have e1 : iI (D.1.length : Nat) - 1 = iI ((D.1.length : Int) - 1) := iI_sub _ 1
  rw [e1]
  exact c_isIn0_ok (by omega) hv (rI_small (by omega) (by omega)) ⟨_, rfl, H⟩
theorem cd_latest_ok {row : List Nat} {K : Option Nat → pw_W → Prop} (hd : 4 ≤ d) (h : c_doc E w.1 w.1 a D) (hD : dc_ok D) (hv : D.1[D.1.length - 1]? = some row) (H : ∀ r : Nat, c_ints w.1 r row → K (some r) w) : pw_Cl E m_X7_latest d [va_rf (some a)] w (c_r K) := by
  replace hd := pw_d1 hd; obtain ⟨e, rfl, hd⟩ := hd
  have hn := hD.2.2.1
  have hl := (List.getElem?_eq_some_iff.mp hv).1
  have e0 : (iI (D.1.length : Nat) = 0) = (D.1.length = 0) := iI_eqn (b := 0) (by omega) (by omega)
  obtain ⟨lv, bv, cv, mv, lt, bt, ct, mt, ld, bd, cd, md, rs, ts, ds, h1, h2, h3, h4, ⟨h5, h6⟩, -⟩ := id h
  obtain ⟨r, r1, r2⟩ := dc_map (l := rs) (i := D.1.length - 1) (by omega)
  have hr := h6 _ r row r1 hv
  refine e_X7_latest _ (s_X7_latest_0 _ (dq_many (by omega) h (ifF (by rw [e0]; omega) ⟨a, _, _, rfl, h1, rfl, dq_many (by omega) h ?_⟩)))
  have e1 : iI (D.1.length : Nat) - 1 = iI ((D.1.length - 1 : Nat) : Int) := by
    have : iI (D.1.length : Nat) - iI 1 = _ := iI_sub _ 1
    rw [show ((D.1.length - 1 : Nat) : Int) = (D.1.length : Int) - 1 by omega]
    exact this
  rw [e1]
  exact ⟨lv, _, rfl, h2.1, cl_get_ok (by omega) h2 r2 ⟨Or.inr ⟨r, 1000, _, rfl, hr, c_canI⟩, _, rfl, H r hr⟩⟩
/-- of a document without versions: an empty row is made -/
theorem cd_latest0_ok {K : Option Nat → pw_W → Prop} (hd : 4 ≤ d) (hw : wf E w) (h : c_doc E w.1 w.1 a D) (hv : D.1.length = 0) (H : ∀ w', cx E w w' c_no 4 → c_ints w'.1 w.2.1 [] → K (some w.2.1) w') : pw_Cl E m_X7_latest d [va_rf (some a)] w (c_r K) := by
  replace hd := pw_d1 hd; obtain ⟨e, rfl, hd⟩ := hd
  refine e_X7_latest _ (s_X7_latest_0 _ (dq_many (by omega) h (ifT (by rw [hv]; rfl) ⟨by decide, by decide, _, rfl, H _ (cx.new hw _ 0) (pw_new_1 _ _ _)⟩)))
theorem cd_size_ok {row : List Nat} {K : Int32 → pw_W → Prop} (hd : 5 ≤ d) (h : c_doc E w.1 w.1 a D) (hD : dc_ok D) (hv : D.1[D.1.length - 1]? = some row) (H : K (iI row.length) w) : pw_Cl E m_X7_size d [va_rf (some a)] w (c_i K) := by
  replace hd := pw_d1 hd; obtain ⟨e, rfl, hd⟩ := hd
  obtain ⟨us, hu⟩ := h.obj
  refine e_X7_size _ (s_X7_size_0 _ ⟨a, us, rfl, hu, cd_latest_ok hd h hD hv (fun r hr => ⟨r, 0, _, _, rfl, hr, rfl, _, rfl, ?_⟩)⟩)
  rw [iI_ofNat, List.length_map]
  exact H
theorem c_ints.at {h : pw_H} {r : Nat} {row : List Nat} {p j : Nat} (k : c_ints h r row) (hp : row[p]? = some j) (hl : row.length ≤ 1000) : h r = some (1000, row.map (fun j => Value.int (iI (j : Nat)))) ∧ ¬ iI (p : Nat) < 0 ∧ (row.map (fun j => Value.int (iI (j : Nat))))[(iI (p : Nat)).toNatClampNeg]? = some (.int (iI (j : Nat))) := by
  have := (List.getElem?_eq_some_iff.mp hp).1
  refine ⟨k, iI_n0 (by omega), ?_⟩
  rw [iI_nn (by omega), List.getElem?_map, hp]
  rfl
theorem dq_aldi {r p j : Nat} {row : List Nat} {K : Int32 → Prop} (k : c_ints w.1 r row) (hp : row[p]? = some j) (hl : row.length ≤ 1000) (H : K (iI (j : Nat))) : f_aldi w (some r) (iI (p : Nat)) K := by
  obtain ⟨h1, h2, h3⟩ := k.at hp hl
  exact ⟨r, 0, _, _, rfl, h1, rfl, h2, h3, H⟩
theorem dq_len {r : Nat} {row : List Nat} {K : Int32 → Prop} (k : c_ints w.1 r row) (H : K (iI row.length)) : f_len w (some r) K := by
  refine ⟨r, 0, _, _, rfl, k, rfl, ?_⟩
  rw [iI_ofNat, List.length_map]
  exact H
theorem dc_ok.row {row : List Nat} {v : Nat} (hD : dc_ok D) (hv : D.1[v]? = some row) : row.length ≤ 1000 ∧ (∀ p j : Nat, row[p]? = some j → ∃ s, D.2.1[j]? = some s) ∧ v < D.1.length ∧ dc_row D v = row ∧ D.1.length ≤ 1000 := by
  have hm := List.mem_of_getElem? hv
  refine ⟨hD.2.2.2.2.1 row hm, fun p j hj => dc_get (hD.1 row hm j (List.mem_of_getElem? hj)), (List.getElem?_eq_some_iff.mp hv).1, dc_getD hv, hD.2.2.1⟩
theorem dc_w_eq {row : List Nat} {v p j : Nat} {s : List Int} (hv : D.1[v]? = some row) (hp : row[p]? = some j) (hs : D.2.1[j]? = some s) : dc_w D v p = s := by
  unfold dc_w dc_row
  rw [dc_getD hv, dc_getD hp, dc_getD hs]
theorem cd_word_ok {row : List Nat} {v p : Nat} {K : Option Nat → pw_W → Prop} (hd : 4 ≤ d) (h : c_doc E w.1 w.1 a D) (hD : dc_ok D) (hv : D.1[v]? = some row) (hp : p < row.length) (H : ∀ c : Nat, c_str w.1 c (dc_w D v p) → K (some c) w) : pw_Cl E m_X7_word d [va_rf (some a), .int (iI v), .int (iI p)] w (c_r K) := by
  replace hd := pw_d1 hd; obtain ⟨e, rfl, hd⟩ := hd
  obtain ⟨b1, b2, -⟩ := hD.row hv
  have hj : row[p]? = some row[p] := List.getElem?_eq_getElem hp
  obtain ⟨s, hs⟩ := b2 p _ hj
  obtain ⟨lv, bv, cv, mv, lt, bt, ct, mt, ld, bd, cd, md, rs, ts, ds, h1, h2, h3, h4, h5, ⟨h7, h8⟩, -⟩ := id h
  have hl := (List.getElem?_eq_some_iff.mp hs).1
  obtain ⟨r, r1, r2⟩ := dc_map (l := ts) (i := row[p]) (by omega)
  obtain ⟨c, c1, c2⟩ := h8 _ r s r1 hs
  refine e_X7_word _ _ _ (s_X7_word_0 _ _ _ ⟨a, _, _, rfl, h1, rfl, dq_row (by omega) h hv (fun q hq => dq_aldi hq hj b1 ⟨lt, _, rfl, h3.1, cl_get_ok (by omega) h3 r2 ⟨Or.inr ⟨r, 7, _, rfl, c1, c_canT⟩, r, _, some c, rfl, c1, rfl, _, rfl, H c ?_⟩⟩)⟩)
  rw [dc_w_eq hv hj hs]
  exact c2
theorem dq_word {e : Nat} {row : List Nat} {v p : Nat} {K : Option Nat → pw_W → Prop} (hd : 4 ≤ e) (h : c_doc E w.1 w.1 a D) (hD : dc_ok D) (hv : D.1[v]? = some row) (hp : p < row.length) (H : ∀ c : Nat, c_str w.1 c (dc_w D v p) → K (some c) w) : f_V E w (some a) 6 m_X7_word e [.int (iI v), .int (iI p)] (c_r K) := by
  obtain ⟨us, hu⟩ := h.obj
  exact ⟨a, us, rfl, hu, cd_word_ok hd h hD hv hp H⟩
theorem dq_equals {e c c' : Nat} {s t : List Int} {K : Bool → pw_W → Prop} (hd : 2 ≤ e) (hw : wf E w) (h : c_str w.1 c s) (h' : c_str w.1 c' t) (H : K (decide (s = t)) w) : f_V E w (some c) 21 m_J6_equals e [va_rf (some c')] (c_z K) := by
  obtain ⟨b, v2, v3, h1, -⟩ := id h
  exact ⟨c, _, rfl, h1, cs_equals_ok hd hw h h' H⟩
/-- a loop that ends early -/
theorem any_true {p : Nat → Bool} {n k : Nat} (hk : k < n) (h : p k = true) : (List.range n).any p = true := List.any_eq_true.mpr ⟨k, List.mem_range.mpr hk, h⟩
theorem any_false {p : Nat → Bool} {n : Nat} (h : ∀ k, k < n → p k = false) : (List.range n).any p = false := by
  rw [List.any_eq_false]
  intro x hx
  rw [h x (List.mem_range.mp hx)]
  decide
theorem all_true {p : Nat → Bool} {n : Nat} (h : ∀ k, k < n → p k = true) : (List.range n).all p = true := List.all_eq_true.mpr (fun x hx => h x (List.mem_range.mp hx))
theorem all_false {p : Nat → Bool} {n k : Nat} (hk : k < n) (h : p k = false) : (List.range n).all p = false := by
  rw [List.all_eq_false]
  exact ⟨k, List.mem_range.mpr hk, by rw [h]; decide⟩
def dc_has (D : dc) (v : Nat) (s : List Int) : Bool := (List.range (dc_len D v)).any (fun p => decide (dc_w D v p = s))
theorem cd_hasWord_ok {row : List Nat} {v c : Nat} {s : List Int} {K : Bool → pw_W → Prop} (hd : 5 ≤ d) (hw : wf E w) (h : c_doc E w.1 w.1 a D) (hD : dc_ok D) (hv : D.1[v]? = some row) (hc : c_str w.1 c s) (H : K (dc_has D v s) w) : pw_Cl E m_X7_hasWord d [va_rf (some a), .int (iI v), va_rf (some c)] w (c_z K) := by
  replace hd := pw_d1 hd; obtain ⟨e, rfl, hd⟩ := hd
  obtain ⟨b1, b2, b3, b4, b5⟩ := hD.row hv
  have hn : dc_len D v = row.length := by unfold dc_len; rw [b4]
  unfold dc_has at H
  rw [hn] at H
  refine e_X7_hasWord _ _ _ (s_X7_hasWord_0 _ _ _ ?_)
  have key : ∀ (f k : Nat), k + f = row.length → (∀ i, i < k → decide (dc_w D v i = s) = false) → pw_Wp E m_X7_hasWord (e + 1) 2 [some (va_rf (some a)), some (.int (iI v)), some (va_rf (some c)), some (.int (iI (k : Nat)))] [] w (c_z K) := by
    intro f
    induction f with
    | zero =>
      intro k hk hs
      refine s_X7_hasWord_2 _ _ _ _ (dq_row (by omega) h hv (fun r hr => dq_len hr (ifT (by rw [iI_len (by omega) (by omega)]; omega) ⟨false, rfl, ?_⟩)))
      rw [any_false (fun i hi => hs i (by omega))] at H
      exact H
    | succ f ih =>
      intro k hk hs
      refine s_X7_hasWord_2 _ _ _ _ (dq_row (by omega) h hv (fun r hr => dq_len hr (ifF (by rw [iI_len (by omega) (by omega)]; omega) (dq_word (by omega) h hD hv (by omega) (fun c' hc' => dq_equals (by omega) hw hc' hc ?_)))))
      by_cases q : dc_w D v k = s
      · rw [decide_eq_true q]
        refine ifF (by decide) ⟨true, rfl, ?_⟩
        rw [any_true (show k < row.length by omega) (decide_eq_true q)] at H
        exact H
      · rw [decide_eq_false q]
        refine ifT (by decide) ?_
        rw [iI_ad1]
        refine ih (k + 1) (by omega) (fun i hi => ?_)
        by_cases u : i = k
        · subst u; exact decide_eq_false q
        · exact hs i (by omega)
  exact key row.length 0 (by omega) (fun i hi => by omega)
def dc_like (D : dc) (v : Nat) (D' : dc) (v' : Nat) : Bool := decide (dc_len D v = dc_len D' v') && (List.range (dc_len D v)).all (fun p => decide (dc_w D v p = dc_w D' v' p))
theorem cd_isLike_ok {a' : Nat} {D' : dc} {row row' : List Nat} {v v' : Nat} {K : Bool → pw_W → Prop} (hd : 5 ≤ d) (hw : wf E w) (h : c_doc E w.1 w.1 a D) (hD : dc_ok D) (hv : D.1[v]? = some row) (h' : c_doc E w.1 w.1 a' D') (hD' : dc_ok D') (hv' : D'.1[v']? = some row') (H : K (dc_like D v D' v') w) : pw_Cl E m_X7_isLike d [va_rf (some a), .int (iI v), va_rf (some a'), .int (iI v')] w (c_z K) := by
  replace hd := pw_d1 hd; obtain ⟨e, rfl, hd⟩ := hd
  obtain ⟨b1, b2, b3, b4, b5⟩ := hD.row hv
  obtain ⟨b1', b2', b3', b4', b5'⟩ := hD'.row hv'
  have hn : dc_len D v = row.length := by unfold dc_len; rw [b4]
  have hn' : dc_len D' v' = row'.length := by unfold dc_len; rw [b4']
  unfold dc_like at H
  rw [hn, hn'] at H
  refine e_X7_isLike _ _ _ _ (s_X7_isLike_0 _ _ _ _ (dq_row (by omega) h hv (fun r hr => dq_len hr (dq_row (by omega) h' hv' (fun r' hr' => dq_len hr' ?_)))))
  by_cases z : row.length = row'.length
  · rw [decide_eq_true z, Bool.true_and] at H
    refine ifT (by rw [z]) ?_
    have key : ∀ (f k : Nat), k + f = row.length → (∀ i, i < k → decide (dc_w D v i = dc_w D' v' i) = true) → pw_Wp E m_X7_isLike (e + 1) 36 [some (va_rf (some a)), some (.int (iI v)), some (va_rf (some a')), some (.int (iI v')), some (.int (iI row.length)), some (.int (iI (k : Nat)))] [] w (c_z K) := by
      intro f
      induction f with
      | zero =>
        intro k hk hs
        refine s_X7_isLike_36 _ _ _ _ _ _ (ifT (by rw [iI_len (by omega) (by omega)]; omega) ⟨true, rfl, ?_⟩)
        rw [all_true (fun i hi => hs i (by omega))] at H
        exact H
      | succ f ih =>
        intro k hk hs
        refine s_X7_isLike_36 _ _ _ _ _ _ (ifF (by rw [iI_len (by omega) (by omega)]; omega) (dq_word (by omega) h hD hv (by omega) (fun c hc => dq_word (by omega) h' hD' hv' (by omega) (fun c' hc' => dq_equals (by omega) hw hc hc' ?_))))
        by_cases q : dc_w D v k = dc_w D' v' k
        · rw [decide_eq_true q]
          refine ifF (by decide) ?_
          rw [iI_ad1]
          refine ih (k + 1) (by omega) (fun i hi => ?_)
          by_cases u : i = k
          · subst u; exact decide_eq_true q
          · exact hs i (by omega)
        · rw [decide_eq_false q]
          refine ifT (by decide) ⟨false, rfl, ?_⟩
          rw [all_false (show k < row.length by omega) (decide_eq_false q)] at H
          exact H
    exact key row.length 0 (by omega) (fun i hi => by omega)
  · rw [decide_eq_false z, Bool.false_and] at H
    exact ifF (by rw [iI_eqn (by omega) (by omega)]; exact z) ⟨false, rfl, H⟩
end
