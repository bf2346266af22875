/-! ===== the base: memory as numbers, the judgements At and OK, a rule an instruction ===== -/
section RhNum
abbrev rI (x : Int) : Prop := -2147483648 ≤ x ∧ x ≤ 2147483647
abbrev rL (x : Int) : Prop := -9223372036854775808 ≤ x ∧ x ≤ 9223372036854775807
abbrev rhI (x : Int) : Int32 := Int32.ofInt x
abbrev rhJ (x : Int) : Int64 := Int64.ofInt x
theorem rh_ti {x : Int} (h : rI x) : (rhI x).toInt = x := Int32.toInt_ofInt_of_le h.1 (by omega)
theorem rh_tj {x : Int} (h : rL x) : (rhJ x).toInt = x := Int64.toInt_ofInt_of_le h.1 (by omega)
theorem rh_ri (x : Int32) : rI x.toInt := ⟨Int32.le_toInt x, by have := Int32.toInt_lt x; omega⟩
theorem rh_rl (x : Int64) : rL x.toInt := ⟨Int64.le_toInt x, by have := Int64.toInt_lt x; omega⟩
theorem rh_lt {x y : Int} (hx : rI x) (hy : rI y) : rhI x < rhI y ↔ x < y := by rw [Int32.lt_iff_toInt_lt, rh_ti hx, rh_ti hy]
theorem rh_le {x y : Int} (hx : rI x) (hy : rI y) : rhI x ≤ rhI y ↔ x ≤ y := by rw [Int32.le_iff_toInt_le, rh_ti hx, rh_ti hy]
theorem rh_eq {x y : Int} (hx : rI x) (hy : rI y) : rhI x = rhI y ↔ x = y := by rw [← Int32.toInt_inj, rh_ti hx, rh_ti hy]
theorem rh_lltj {x y : Int} (hx : rL x) (hy : rL y) : rhJ x < rhJ y ↔ x < y := by rw [Int64.lt_iff_toInt_lt, rh_tj hx, rh_tj hy]
theorem rh_leqj {x y : Int} (hx : rL x) (hy : rL y) : rhJ x = rhJ y ↔ x = y := by rw [← Int64.toInt_inj, rh_tj hx, rh_tj hy]
theorem rh_cl {x : Int} (h : rI x) : (rhI x).toNatClampNeg = x.toNat := by
  show (rhI x).toInt.toNat = x.toNat
  rw [rh_ti h]
theorem rh_in {x : Int} {n : Nat} (h0 : 0 ≤ x) (h1 : x < (n : Int)) (hn : n ≤ 2147483647) : vp_in (rhI x) n := by
  have hx : rI x := ⟨by omega, by omega⟩
  intro h
  rcases h with h | h
  · rw [show (0 : Int32) = rhI 0 from rfl, rh_lt hx ⟨by decide, by decide⟩] at h
    omega
  · rw [rh_cl hx] at h
    omega
theorem rh_i2l_ {x : Int} (h : rI x) : (rhI x).toInt64 = rhJ x := by
  rw [← Int64.toInt_inj, Int32.toInt_toInt64, rh_ti h, rh_tj ⟨by omega, by omega⟩]
theorem rh_lt32 {x : Int} (h : rI x) : (rhJ x).toInt32 = rhI x := by
  rw [← Int32.toInt_inj, Int64.toInt_toInt32, rh_ti h, rh_tj ⟨by omega, by omega⟩]
  exact Int.bmod_eq_of_le (by omega) (by omega)
theorem rh_div {x y : Int} (hx : rI x) (hy : rI y) (h0 : 0 ≤ x) (h1 : 0 < y) : rhI x / rhI y = rhI (x / y) := by
  have hq : rI (x / y) := ⟨by have := Int.ediv_nonneg h0 (Int.le_of_lt h1); omega, by have := Int.ediv_le_self y h0; omega⟩
  rw [← Int32.toInt_inj, Int32.toInt_div, rh_ti hx, rh_ti hy, rh_ti hq, Int.tdiv_eq_ediv_of_nonneg h0]
  exact Int.bmod_eq_of_le (by omega) (by omega)
theorem rh_rem {x y : Int} (hx : rI x) (hy : rI y) (h0 : 0 ≤ x) (h1 : 0 < y) : rhI x - rhI x / rhI y * rhI y = rhI (x % y) := by
  rw [rh_div hx hy h0 h1, ← Int32.ofInt_mul, ← Int32.ofInt_sub]
  congr 1
  rw [Int.emod_def, Int.mul_comm]
theorem rh_ldiv {x y : Int} (hx : rL x) (hy : rL y) (h0 : 0 ≤ x) (h1 : 0 < y) : rhJ x / rhJ y = rhJ (x / y) := by
  have hq : rL (x / y) := ⟨by have := Int.ediv_nonneg h0 (Int.le_of_lt h1); omega, by have := Int.ediv_le_self y h0; omega⟩
  rw [← Int64.toInt_inj, Int64.toInt_div, rh_tj hx, rh_tj hy, rh_tj hq, Int.tdiv_eq_ediv_of_nonneg h0]
  exact Int.bmod_eq_of_le (by omega) (by omega)
theorem rh_lrem {x y : Int} (hx : rL x) (hy : rL y) (h0 : 0 ≤ x) (h1 : 0 < y) : rhJ x - rhJ x / rhJ y * rhJ y = rhJ (x % y) := by
  rw [rh_ldiv hx hy h0 h1, ← Int64.ofInt_mul, ← Int64.ofInt_sub]
  congr 1
  rw [Int.emod_def, Int.mul_comm]
/-- the operations on bits, as numbers -/
def rh_and (x y : Int) : Int := (rhI x &&& rhI y).toInt
def rh_or (x y : Int) : Int := (rhI x ||| rhI y).toInt
def rh_xor (x y : Int) : Int := (rhI x ^^^ rhI y).toInt
def rh_shl (x y : Int) : Int := (rhI x <<< (rhI y &&& 31)).toInt
def rh_shr (x y : Int) : Int := (rhI x >>> (rhI y &&& 31)).toInt
def rh_land (x y : Int) : Int := (rhJ x &&& rhJ y).toInt
def rh_lor (x y : Int) : Int := (rhJ x ||| rhJ y).toInt
def rh_lxor (x y : Int) : Int := (rhJ x ^^^ rhJ y).toInt
def rh_lshl (x y : Int) : Int := (rhJ x <<< ((rhI y).toInt64 &&& 63)).toInt
def rh_lshr (x y : Int) : Int := (rhJ x >>> ((rhI y).toInt64 &&& 63)).toInt
def rh_lushr (x y : Int) : Int := ((rhJ x).toUInt64 >>> ((rhI y).toInt64.toUInt64 &&& Int64.toUInt64 63)).toInt64.toInt
def rh_i2b (x : Int) : Int := (rhI x).toInt8.toInt32.toInt
end RhNum

section RhDefs
/-- the memory: cell, place in it (an index, or a field's number) -/
abbrev rhM : Type := Int → Int → Int
def rh_set (M : rhM) (r i v : Int) : rhM := fun a j => if a = r then (if j = i then v else M a j) else M a j
theorem rh_set_s (M : rhM) (r i v : Int) : rh_set M r i v r i = v := by simp [rh_set]
theorem rh_set_a {M : rhM} {r i v a j : Int} (h : a ≠ r) : rh_set M r i v a j = M a j := by simp [rh_set, h]
theorem rh_set_j {M : rhM} {r i v a j : Int} (h : j ≠ i) : rh_set M r i v a j = M a j := by simp [rh_set, h]
/-- a cell's kind: an array (type of its elements, length), or an object (number of its class in rh_cls) -/
abbrev rhK : Type := (FieldType × Nat) ⊕ Nat
/-- the world: where its cells begin, and whether the heap ends with them; addresses of static tables, of texts and of their bytes; the classes as the tables have them; the array classes; how many cells there are; their kinds; fixed references -/
abbrev rhW : Type := (Nat × Bool) × ((Nat → Nat) × (Nat → Nat) × (Nat → Nat)) × va_G × (FieldType → ClassId) × Nat × (Nat → rhK) × (Nat → Nat → Option Nat)
abbrev rw_b (w : rhW) : Nat := w.1.1
abbrev rw_g (w : rhW) : Bool := w.1.2
abbrev rw_t (w : rhW) : Nat → Nat := w.2.1.1
abbrev rw_k (w : rhW) : Nat → Nat := w.2.1.2.1
abbrev rw_v (w : rhW) : Nat → Nat := w.2.1.2.2
abbrev rw_D (w : rhW) : va_G := w.2.2.1
abbrev rw_c (w : rhW) : FieldType → ClassId := w.2.2.2.1
abbrev rw_n (w : rhW) : Nat := w.2.2.2.2.1
abbrev rw_kd (w : rhW) : Nat → rhK := w.2.2.2.2.2.1
abbrev rw_rf (w : rhW) : Nat → Nat → Option Nat := w.2.2.2.2.2.2
/-- a reference as a number: the cell's, or below 0 null -/
def rh_r (b : Nat) (x : Int) : Option Nat := if x < 0 then none else some (b + x.toNat)
theorem rh_r_n (b r : Nat) : rh_r b (r : Int) = some (b + r) := by
  unfold rh_r
  rw [if_neg (by omega)]
  simp
def rh_v (b : Nat) (ty : FieldType) (x : Int) : Value := match ty with
  | .long => .long (rhJ x)
  | .object _ => va_rf (rh_r b x)
  | .array _ => va_rf (rh_r b x)
  | _ => .int (rhI x)
/-- an entry of the stack or of the locals: its sort (0 int, 1 long, 2 reference, 3 int and 4 long that may be out of range, 8 static table, 9 text, 10 its bytes) and its number -/
abbrev rhA : Type := Nat × Int
def rh_a (w : rhW) (q : rhA) : Value := match q.1 with
  | 1 => .long (rhJ q.2)
  | 4 => .long (rhJ q.2)
  | 2 => va_rf (rh_r (rw_b w) q.2)
  | 8 => .ref (rw_t w q.2.toNat)
  | 9 => .ref (rw_k w q.2.toNat)
  | 10 => .ref (rw_v w q.2.toNat)
  | _ => .int (rhI q.2)
def rh_ok (q : rhA) : Prop := match q.1 with
  | 0 => rI q.2
  | 1 => rL q.2
  | _ => True
def rh_rr (w : rhW) (M : rhM) (r k : Nat) : Option Nat := match rw_rf w r k with
  | some q => some (rw_b w + q)
  | none => rh_r (rw_b w) (M r k)
def rh_fv (w : rhW) (M : rhM) (r k : Nat) (ty : FieldType) : Value := match rw_rf w r k with
  | some q => .ref (rw_b w + q)
  | none => rh_v (rw_b w) ty (M r k)
def rh_ac (w : rhW) (M : rhM) (r : Nat) (ty : FieldType) : (Nat → Int32) ⊕ (Nat → Int64) ⊕ (Nat → UInt32) ⊕ (Nat → UInt64) ⊕ (Nat → Option Nat) := match ty with
  | .long => .inr (.inl fun j => rhJ (M r j))
  | .object _ => .inr (.inr (.inr (.inr fun j => rh_rr w M r j)))
  | .array _ => .inr (.inr (.inr (.inr fun j => rh_rr w M r j)))
  | _ => .inl fun j => rhI (M r j)
def rh_cN (ci : Nat) : Nat := match rh_cls[ci]? with
  | some q => q.2.2
  | none => 0
theorem rh_cN_of {ci : Nat} {q : vw_C} (h : rh_cls[ci]? = some q) : rh_cN ci = q.2.2 := by simp [rh_cN, h]
def rh_fs (w : rhW) (M : rhM) (r ci : Nat) : List Value := (List.range (rh_cN ci)).map fun k => rh_fv w M r k (rh_fty ci k)
theorem rh_fs_get {w : rhW} {M : rhM} {r ci k : Nat} (h : k < rh_cN ci) : (rh_fs w M r ci)[k]? = some (rh_fv w M r k (rh_fty ci k)) := by
  simp [rh_fs, h]
theorem rh_fs_len {w : rhW} {M : rhM} {r ci : Nat} : (rh_fs w M r ci).length = rh_cN ci := by simp [rh_fs]
def rh_e (w : rhW) (M : rhM) (r : Nat) : va_E := match rw_kd w r with
  | .inl a => .inl (rw_c w a.1, a.2, rh_ac w M r a.1)
  | .inr ci => .inr (ci, rh_fs w M r ci)
def rh_ws (w : rhW) (M : rhM) : va_W := (List.range (rw_n w)).map fun r => (rw_b w + r, rh_e w M r)
theorem rh_ws_get {w : rhW} {M : rhM} {r : Nat} (h : r < rw_n w) : (rh_ws w M)[r]? = some (rw_b w + r, rh_e w M r) := by
  simp [rh_ws, h]
theorem rh_ws_inv {w : rhW} {M : rhM} {r : Nat} {q : Nat × va_E} (h : (rh_ws w M)[r]? = some q) : r < rw_n w ∧ q = (rw_b w + r, rh_e w M r) := by
  have hr : r < rw_n w := by
    have := (List.getElem?_eq_some_iff.mp h).1
    simpa [rh_ws] using this
  rw [rh_ws_get hr] at h
  exact ⟨hr, (Option.some.inj h).symm⟩
/-- the cells that are ours: all from the base on where the world ends the heap, else those of the world alone -/
def rh_A (w : rhW) : Nat → Prop := fun q => rw_b w ≤ q ∧ (rw_g w = true ∨ q < rw_b w + rw_n w)
theorem rh_ws_D (w : rhW) (M : rhM) : va_D (rh_A w) (rh_ws w M) := by
  refine ⟨fun i j p q hi hj h => ?_, fun k q hk => ?_⟩
  · obtain ⟨-, rfl⟩ := rh_ws_inv hi
    obtain ⟨-, rfl⟩ := rh_ws_inv hj
    exact Nat.add_left_cancel h
  · obtain ⟨hr, rfl⟩ := rh_ws_inv hk
    exact ⟨Nat.le_add_right _ _, .inr (Nat.add_lt_add_left hr _)⟩
/-- one cell of the world changes -/
theorem rh_ws_set {w : rhW} {M M' : rhM} {r : Nat} {e : va_E} (he : rh_e w M' r = e) (ho : ∀ a, a ≠ r → rh_e w M' a = rh_e w M a) : (rh_ws w M).set r (rw_b w + r, e) = rh_ws w M' := by
  apply List.ext_getElem?
  intro i
  by_cases hi : i = r
  · subst hi
    by_cases hn : i < rw_n w
    · rw [List.getElem?_set_self (by simpa [rh_ws] using hn), rh_ws_get hn, he]
    · rw [List.getElem?_eq_none (by simp [rh_ws]; omega), List.getElem?_eq_none (by simp [rh_ws]; omega)]
  · rw [List.getElem?_set_ne (Ne.symm hi)]
    by_cases hn : i < rw_n w
    · rw [rh_ws_get hn, rh_ws_get hn, ho i hi]
    · rw [List.getElem?_eq_none (by simp [rh_ws]; omega), List.getElem?_eq_none (by simp [rh_ws]; omega)]
theorem rh_e_ne {w : rhW} {M : rhM} {r a : Nat} {i v : Int} (h : a ≠ r) : rh_e w (rh_set M r i v) a = rh_e w M a := by
  have hz : ∀ j : Int, rh_set M r i v a j = M a j := fun j => rh_set_a (by omega)
  unfold rh_e
  cases rw_kd w a with
  | inl q =>
    have : rh_ac w (rh_set M r i v) a q.1 = rh_ac w M a q.1 := by
      unfold rh_ac rh_rr
      simp only [hz]
    simp only [this]
  | inr ci =>
    have : rh_fs w (rh_set M r i v) a ci = rh_fs w M a ci := by
      unfold rh_fs rh_fv
      simp only [hz]
    simp only [this]
/-- what a place of the type holds -/
def rh_rg (ty : FieldType) (x : Int) : Prop := match ty with
  | .int => rI x
  | .byte => -128 ≤ x ∧ x ≤ 127
  | .boolean => 0 ≤ x ∧ x ≤ 1
  | .char => 0 ≤ x ∧ x ≤ 65535
  | .short => -32768 ≤ x ∧ x ≤ 32767
  | .long => rL x
  | _ => True
def rh_wm (w : rhW) (M : rhM) : Prop := ∀ r, r < rw_n w → match rw_kd w r with
  | .inl a => ∀ j : Nat, j < a.2 → rh_rg a.1 (M r j)
  | .inr ci => ∀ k : Nat, k < rh_cN ci → rw_rf w r k = none → rh_rg (rh_fty ci k) (M r k)
theorem rh_wm.arr {w : rhW} {M : rhM} (h : rh_wm w M) {r n : Nat} {ty : FieldType} (hr : r < rw_n w) (hk : rw_kd w r = .inl (ty, n)) {x : Int} (h0 : 0 ≤ x) (h1 : x < n) : rh_rg ty (M r x) := by
  have := h r hr
  rw [hk] at this
  have h2 := this x.toNat (by show x.toNat < n; omega)
  rwa [Int.toNat_of_nonneg h0] at h2
theorem rh_wm.obj {w : rhW} {M : rhM} (h : rh_wm w M) {r ci k : Nat} (hr : r < rw_n w) (hk : rw_kd w r = .inr ci) (hk2 : k < rh_cN ci) (hf : rw_rf w r k = none) : rh_rg (rh_fty ci k) (M r k) := by
  have := h r hr
  rw [hk] at this
  exact this k hk2 hf
theorem rh_wm.setA {w : rhW} {M : rhM} (h : rh_wm w M) {r n : Nat} {ty : FieldType} (hk : rw_kd w r = .inl (ty, n)) {i v : Int} (hv : rh_rg ty v) : rh_wm w (rh_set M r i v) := by
  intro a ha
  by_cases e : a = r
  · subst e
    have := h a ha
    rw [hk] at this ⊢
    intro j hj
    by_cases ej : (j : Int) = i
    · rw [ej, rh_set_s]; exact hv
    · rw [rh_set_j ej]; exact this j hj
  · have := h a ha
    cases hq : rw_kd w a with
    | inl q =>
      rw [hq] at this
      intro j hj
      rw [rh_set_a (by omega)]
      exact this j hj
    | inr ci =>
      rw [hq] at this
      intro j hj hf
      rw [rh_set_a (by omega)]
      exact this j hj hf
theorem rh_wm.setO {w : rhW} {M : rhM} (h : rh_wm w M) {r ci k : Nat} (hk : rw_kd w r = .inr ci) {v : Int} (hv : rh_rg (rh_fty ci k) v) : rh_wm w (rh_set M r k v) := by
  intro a ha
  by_cases e : a = r
  · subst e
    have := h a ha
    rw [hk] at this ⊢
    intro j hj hf
    by_cases ej : j = k
    · rw [ej, rh_set_s]; exact hv
    · rw [rh_set_j (by omega)]; exact this j hj hf
  · have := h a ha
    cases hq : rw_kd w a with
    | inl q =>
      rw [hq] at this
      intro j hj
      rw [rh_set_a (by omega)]
      exact this j hj
    | inr ci =>
      rw [hq] at this
      intro j hj hf
      rw [rh_set_a (by omega)]
      exact this j hj hf
/-- the heap holds the memory -/
def rh_H (w : rhW) (M : rhM) (H : Heap) : Prop := va_P (rw_D w) rh_cls (rh_ws w M) H
/-- arrays' classes -/
def rh_tl : List FieldType := [.int, .byte, .boolean, .long, .object RX29, .object RX31, .object RX8, .object RX12, .object RX22]
def rh_tys (w : rhW) : List (ClassId × FieldType) := rh_tl.map fun t => (rw_c w t, t)
theorem rh_tys_get {w : rhW} {t : Nat} {ty : FieldType} (h : rh_tl[t]? = some ty) : (rh_tys w)[t]? = some (rw_c w ty, ty) := by
  simp [rh_tys, h]
/-- words that don't ride in the lists -/
def rh_isN : Cond → Bool
  | .fieldLinkNest .. => true
  | .methodLinkNest .. => true
  | .declares _ => true
  | .castable .. => true
  | _ => false
def rh_nst : List Cond := lw_tbl.filter rh_isN
theorem rh_nw {s U : State} (hW : s.WarmedH U.vm) {x : Cond} (hx : rh_isN x = true) (h : va_Nw x s) : va_Nw x U := by
  cases x <;> simp [rh_isN] at hx <;> first | exact h.warmF hW | exact h.warmM hW | exact h.warmD hW | exact h.warmC hW
end RhDefs

section RhAt
/-- the static tables: class, field, numbers -/
def rh_sa : List (String × String × List Int) := [("ReadingHouse$Parts", "AWAY_X", [0, 0, -1, 1, -1, 1, -1, 1]), ("ReadingHouse$Parts", "AWAY_Y", [-1, 1, 0, 0, -1, -1, 1, 1]), ("ReadingHouse$Walk", "DX", [1, 0, -1, 0]), ("ReadingHouse$Walk", "DY", [0, 1, 0, -1]), ("ReadingHouse", "AROUND_X", [0, 1, 1, 1, 0, -1, -1, -1]), ("ReadingHouse", "AROUND_Y", [-1, -1, 0, 1, 1, 1, 0, -1]), ("ReadingHouse$Bars", "WIDE", [6, 17, 9, 24, 5, 20, 12, 3, 18, 10]), ("ReadingHouse$Forms", "SYMBOLS", [31599, 11415, 29671, 29647, 23497, 31183, 31215, 29266, 31727, 31695, 11245, 27566, 14627, 27502, 31143, 31140, 14699, 23533, 29847, 4714, 23469, 18727, 24557, 31597, 11114, 27556, 11123, 27565, 14478, 29842, 23407, 23402, 23549, 23213, 23186, 29351])]
/-- the texts: class, entry, text, bytes -/
def rh_st : List (String × Nat × String × List Int) := [("ReadingHouse", 843, "<b><l>", [60, 98, 62, 60, 108, 62]), ("ReadingHouse", 845, "<l>", [60, 108, 62]), ("ReadingHouse", 847, "", []), ("ReadingHouse", 832, "<w", [60, 119]), ("ReadingHouse", 823, "&amp;", [38, 97, 109, 112, 59]), ("ReadingHouse", 825, "&lt;", [38, 108, 116, 59]), ("ReadingHouse", 827, "&gt;", [38, 103, 116, 59]), ("ReadingHouse", 841, "</w>", [60, 47, 119, 62]), ("ReadingHouse", 853, "</l></b>", [60, 47, 108, 62, 60, 47, 98, 62]), ("ReadingHouse", 855, "</l>", [60, 47, 108, 62]), ("ReadingHouse", 857, " ", [32]), ("ReadingHouse", 859, "\n\n", [10, 10]), ("ReadingHouse", 861, "\n", [10]), ("ReadingHouse$FieldRules", 102, "=", [61]), ("ReadingHouse$FieldRules", 108, "\"", [34]), ("ReadingHouse$FieldRules", 113, "@><v^", [64, 62, 60, 118, 94]), ("ReadingHouse$FieldRules", 115, "wn", [119, 110]), ("ReadingHouse$FieldRules", 117, ";", [59])]
def rh_X (w : rhW) (s : State) : Prop :=
  va_K (rw_D w) rh_cls (rh_tys w) s ∧ (∀ x ∈ rh_nst, va_Nw x s) ∧
  (∀ (i : Nat) (q : String × String × List Int), rh_sa[i]? = some q → va_Z q.1 q.2.1 "[I" (.ref (rw_t w i)) (rh_A w) s s.heap ∧ va_T .int (rw_t w i) q.2.2.length (fun j => .int (rhI (q.2.2.getD j 0))) (rh_A w) s s.heap) ∧
  (∀ (i : Nat) (q : String × Nat × String × List Int), rh_st[i]? = some q → vk_R q.1 q.2.1 q.2.2.1 (rw_k w i) s) ∧
  vk_S rh_st.length (rh_st.map fun q => q.2.2.2.length) (rh_st.map fun q => q.2.2.2.map fun x => rhI x) (rw_k w) (rw_v w) (rh_A w) s s.heap ∧
  va_Z "java/lang/String" "COMPACT_STRINGS" "Z" (.int 1) (rh_A w) s s.heap ∧
  (va_Z "jdk/internal/util/Preconditions" "SIOOBE_FORMATTER" "Ljava/util/function/BiFunction;" .null (rh_A w) s s.heap ∨ va_Z "jdk/internal/util/Preconditions" "SIOOBE_FORMATTER" "Ljava/util/function/BiFunction;" (.ref (rw_k w rh_st.length)) (rh_A w) s s.heap)
theorem rh_X.same {w : rhW} {u U : State} (hv : U.vm = u.vm) (hh : U.heap = u.heap) (h : rh_X w u) : rh_X w U := by
  have ha : u.vm.Alike U.vm := by rw [hv]; exact Vm.Alike.refl _
  obtain ⟨h1, h2, h3, h4, h5, h6, h7⟩ := h
  refine ⟨h1.moved ha, fun x hx => ?_, fun i q hq => ?_, fun i q hq => (h4 i q hq).same hv, ?_, ?_, ?_⟩
  · have hn := (List.mem_filter.mp hx).2
    have := h2 x hx
    cases x <;> simp [rh_isN] at hn <;> exact this.same rfl hv.symm
  · rw [hh]
    exact ⟨(h3 i q hq).1.moved ha, (h3 i q hq).2.moved ha⟩
  · rw [hh]
    exact h5.moved ha
  · rw [hh]
    exact h6.moved ha
  · rw [hh]
    exact h7.imp (fun h => h.moved ha) (fun h => h.moved ha)
theorem rh_X.warm {w : rhW} {s U : State} {locs : List Loc} (hW : s.WarmedH U.vm) (hS : va_S (rh_A w) s.heap U.heap locs) (h : rh_X w s) : rh_X w U := by
  have ha : s.vm.Alike U.vm := hW.alike
  obtain ⟨h1, h2, h3, h4, h5, h6, h7⟩ := h
  refine ⟨h1.moved ha, fun x hx => rh_nw hW (List.mem_filter.mp hx).2 (h2 x hx), fun i q hq => ?_, fun i q hq => (h4 i q hq).warm hW, ?_, ?_, ?_⟩
  · exact ⟨((h3 i q hq).1.kept hS.2.1).moved ha, ((h3 i q hq).2.kept hS.2.1).moved ha⟩
  · exact (h5.kept hS.2.1).moved ha
  · exact (h6.kept hS.2.1).moved ha
  · exact h7.imp (fun h => (h.kept hS.2.1).moved ha) (fun h => (h.kept hS.2.1).moved ha)
/-- a method: its name, code, locals, answer -/
abbrev rhY : Type := MethodName × ByteArray × Nat × Option FieldType
abbrev ry_y (Y : rhY) : MethodName := Y.1
abbrev ry_c (Y : rhY) : ByteArray := Y.2.1
abbrev ry_L (Y : rhY) : Nat := Y.2.2.1
abbrev ry_r (Y : rhY) : Option FieldType := Y.2.2.2
abbrev rhL : Type := List (Nat × rhA)
def rh_lv (w : rhW) (L : rhL) : List (Nat × Value) := L.map fun q => (q.1, rh_a w q.2)
theorem rh_lv_get {w : rhW} {L : rhL} {j i : Nat} {a : rhA} (h : L[j]? = some (i, a)) : (rh_lv w L)[j]? = some (i, rh_a w a) := by
  simp [rh_lv, h]
/-- where a method stands: what doesn't change in it -/
def rh_C (w : rhW) (Y : rhY) (n : Nat) (k : Nat × Nat × Nat × Nat) (p : Program) (R : Room) (s : State) (m : MethodId) (args : Array Value) (meth : Method) (c : Code) : Prop :=
  p.tables.exec = Jvm.exec ∧ c.code = ry_c Y ∧ c.maxLocals = ry_L Y ∧ meth.sig.returnType = ry_r Y ∧ meth.locks = false ∧ s.vm.findClass (ry_y Y).cls = some m.cls ∧ meth.name = (ry_y Y).name ∧
  (∀ x ∈ lw_all, x.before args s = true) ∧ rh_X w s ∧ n ≤ R.frames ∧ 100 * n ≤ R.locals ∧ k.2.2.1 ≤ R.cells ∧ k.2.2.2 ≤ R.slots ∧ k.1 ≤ k.2.2.1 ∧ k.2.1 ≤ k.2.2.2 ∧ rw_b w ≤ s.heap.size ∧ (rw_g w = true → s.heap.size + k.1 ≤ rw_b w + rw_n w) ∧ s.methodNamed? (ry_y Y) = some m
/-- and what does -/
def rh_D (w : rhW) (Y : rhY) (L : rhL) (S : List rhA) (M : rhM) (s : State) (H : Heap) (locs : List Loc) (ls : Array Slot) : Prop :=
  rh_wm w M ∧ (∀ z ∈ L, rh_ok z.2) ∧ (∀ z ∈ S, rh_ok z) ∧ rh_H w M H ∧ va_S (rh_A w) s.heap H locs ∧ lv_has ls (ry_L Y) (rh_lv w L)
/-- THE MACHINE AT A PLACE of the method Y, n frames deep at most, k: cells and slots used and had: it comes to Z -/
def rh_At (w : rhW) (Y : rhY) (n : Nat) (k : Nat × Nat × Nat × Nat) (Z : List Frame → Array Value → State → State → Prop) (pc : Nat) (L : rhL) (S : List rhA) (M : rhM) : Prop :=
  ∀ (p : Program) (l : Launch) (e : Env) (R : Room) (s : State) (m : MethodId) (args : Array Value) (below : List Frame) (meth : Method) (c : Code) (H : Heap) (locs : List Loc) (ls : Array Slot),
    rh_C w Y n k p R s m args meth c → rh_D w Y L S M s H locs ls → W p l e R s m args below meth c H locs k.1 k.2.1 (Z below args s) (F0 m pc ls (S.map (rh_a w)))
def rh_ov (w : rhW) (ret : Option FieldType) (r : Int) : Option Value := ret.map fun ty => rh_v (rw_b w) ty r
def rh_og (ret : Option FieldType) (r : Int) : Prop := match ret with
  | some ty => rh_rg ty r
  | none => True
def rh_Pc (w : rhW) (av : List rhA) (M : rhM) : Array Value → State → Prop := fun v U =>
  v = (av.map (rh_a w)).toArray ∧ rh_X w U ∧ rw_b w ≤ U.heap.size ∧ rh_wm w M ∧ (∀ z ∈ av, rh_ok z) ∧ rh_H w M U.heap ∧ (rw_g w = true → U.heap.size ≤ rw_b w + rw_n w)
def rh_Qc (w : rhW) (ret : Option FieldType) (Q : Int → rhM → Prop) : Array Value → State → Outcome → State → Prop := fun _ st o t =>
  ∃ (r : Int) (M : rhM), o = .returned (rh_ov w ret r) ∧ rh_og ret r ∧ rh_wm w M ∧ rh_H w M t.heap ∧ va_F (rh_A w) st t ∧ Q r M
def rh_rm (n mc ms : Nat) : Room := { frames := n, cells := mc, slots := ms, locals := 100 * n }
/-- A METHOD'S CONTRACT: called with av in the memory M it returns r and leaves M', with Q r M' -/
def rh_OKg (w w' : rhW) (Y : rhY) (n mc ms : Nat) (av : List rhA) (M : rhM) (Q : Int → rhM → Prop) : Prop :=
  ∀ l : Launch, Met l (ry_y Y) (ws_ (ry_y Y) (ry_c Y) (ry_L Y) (ry_r Y)) (rh_rm n mc ms) (rh_Pc w av M) (rh_Qc w' (ry_r Y) Q) mc ms (rh_A w)
/-- of one that makes no cells -/
def rh_OK (w : rhW) (Y : rhY) (n : Nat) (av : List rhA) (M : rhM) (Q : Int → rhM → Prop) : Prop := rh_OKg w w Y n 0 0 av M Q
def rh_Z (w : rhW) (Y : rhY) (mc ms : Nat) (Q : Int → rhM → Prop) : List Frame → Array Value → State → State → Prop := fun below args s =>
  MQ below (rh_Qc w (ry_r Y) Q) args s mc ms (rh_A w)
/-- WHAT A METHOD MAY COME TO: it returns, or throws the fault (cell 3) -/
abbrev rhQ : Type := (Int → rhM → Prop) × (rhM → Prop)
def rh_MX (w : rhW) (X : rhM → Prop) : List Frame → Array Value → State → State → Prop := fun below _ s t =>
  t.status = .running ∧ Ended t below (.threw (rw_b w + 3)) ∧ (∃ M : rhM, rh_wm w M ∧ rh_H w M t.heap ∧ va_F (rh_A w) s t ∧ X M) ∧ s.WarmedH t.vm ∧ ∃ L, s.sameButNew ({ t with vm := s.vm } : State) L 0 0 ∧ ∀ q ∈ L, rh_A w q.base
def rh_Zq (w : rhW) (Y : rhY) (Q : rhQ) : List Frame → Array Value → State → State → Prop := fun below args s t => rh_Z w Y 0 0 Q.1 below args s t ∨ rh_MX w Q.2 below args s t
theorem rh_At.mono {w : rhW} {Y : rhY} {n : Nat} {k : Nat × Nat × Nat × Nat} {Z Z' : List Frame → Array Value → State → State → Prop} {pc : Nat} {L : rhL} {S : List rhA} {M : rhM} (h : rh_At w Y n k Z pc L S M) (hz : ∀ b a s t, Z b a s t → Z' b a s t) : rh_At w Y n k Z' pc L S M := by
  intro p l e R s m args below meth c H locs ls C D T hT X
  obtain ⟨t, a, b⟩ := h p l e R s m args below meth c H locs ls C D T hT X
  exact ⟨t, a, hz _ _ _ _ b⟩
theorem rh_At.zq {w : rhW} {Y : rhY} {n : Nat} {k : Nat × Nat × Nat × Nat} {Q : rhQ} {pc : Nat} {L : rhL} {S : List rhA} {M : rhM} (h : rh_At w Y n k (rh_Z w Y 0 0 Q.1) pc L S M) : rh_At w Y n k (rh_Zq w Y Q) pc L S M := h.mono (fun _ _ _ _ h => Or.inl h)
theorem rh_At.qz {w : rhW} {Y : rhY} {n : Nat} {k : Nat × Nat × Nat × Nat} {Q : Int → rhM → Prop} {pc : Nat} {L : rhL} {S : List rhA} {M : rhM} (h : rh_At w Y n k (rh_Zq w Y (Q, fun _ => False)) pc L S M) : rh_At w Y n k (rh_Z w Y 0 0 Q) pc L S M := h.mono (fun _ _ _ _ h => h.elim id (fun hx => hx.2.2.1.elim (fun _ hy => hy.2.2.2.elim)))
theorem rh_OKg.mono {w w' : rhW} {Y : rhY} {n mc ms : Nat} {av : List rhA} {M : rhM} {Q Q' : Int → rhM → Prop} (h : rh_OKg w w' Y n mc ms av M Q) (hq : ∀ r M', rh_og (ry_r Y) r → rh_wm w' M' → Q r M' → Q' r M') : rh_OKg w w' Y n mc ms av M Q' := by
  intro l p e ha hc hk s m args below hf happ hp hK
  obtain ⟨nn, o, h1, h2, h3, ⟨r, M', q1, q2, q3, q4, q5, q6⟩, h5⟩ := h l p e ha hc hk s m args below hf happ hp hK
  exact ⟨nn, o, h1, h2, h3, ⟨r, M', q1, q2, q3, q4, q5, hq r M' q2 q3 q6⟩, h5⟩
theorem rh_OK.mono {w : rhW} {Y : rhY} {n : Nat} {av : List rhA} {M : rhM} {Q Q' : Int → rhM → Prop} (h : rh_OK w Y n av M Q) (hq : ∀ r M', rh_og (ry_r Y) r → rh_wm w M' → Q r M' → Q' r M') : rh_OK w Y n av M Q' := rh_OKg.mono h hq
/-- the arguments as locals -/
def rh_lo : Nat → List rhA → rhL
  | _, [] => []
  | i, a :: l => (i, a) :: rh_lo (if a.1 = 1 ∨ a.1 = 4 then i + 2 else i + 1) l
theorem rh_cat (w : rhW) (a : rhA) : (rh_a w a).category = if a.1 = 1 ∨ a.1 = 4 then 2 else 1 := by
  obtain ⟨t, x⟩ := a
  have h2 : (va_rf (rh_r (rw_b w) x)).category = 1 := by
    cases rh_r (rw_b w) x <;> rfl
  unfold rh_a
  split <;> simp_all [Value.category]
theorem rh_lo_eq (w : rhW) (av : List rhA) : ∀ i : Nat, rh_lv w (rh_lo i av) = lv_args i (av.map (rh_a w)) := by
  induction av with
  | nil => intro i; rfl
  | cons a l ih =>
    intro i
    have hc := rh_cat w a
    show (i, rh_a w a) :: rh_lv w (rh_lo (if a.1 = 1 ∨ a.1 = 4 then i + 2 else i + 1) l) = lv_args i (rh_a w a :: l.map (rh_a w))
    rw [ih]
    show _ = (i, rh_a w a) :: lv_args (if (rh_a w a).category = 2 then i + 2 else i + 1) (l.map (rh_a w))
    split at hc
    · rename_i h
      rw [if_pos h, if_pos hc]
    · rename_i h
      rw [if_neg h, if_neg (by omega)]
end RhAt
