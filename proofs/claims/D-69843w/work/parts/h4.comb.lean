/-! ===== pure: sets of places, in order ===== -/
section Comb
/-- e places that are not blank, rising -/
def Cmb (w : Int → Int) (sz e : Int) (q : Int → Int) : Prop := ∀ k, 0 ≤ k → k < e → (0 ≤ q k ∧ q k < sz) ∧ w (q k) ≠ 16 ∧ (k + 1 < e → q k < q (k + 1))
theorem ris_m {e : Int} {q : Int → Int} (h : ∀ k, 0 ≤ k → k + 1 < e → q k < q (k + 1)) {a : Int} (a0 : 0 ≤ a) : ∀ u : Nat, a + u < e → q a + u ≤ q (a + u)
  | 0, _ => by rw [show a + ((0 : Nat) : Int) = a by omega]; omega
  | u + 1, hu => by
    have i := ris_m h a0 u (by omega)
    have s := h (a + u) (by omega) (by omega)
    rw [show a + ((u + 1 : Nat) : Int) = a + u + 1 by omega]
    omega
theorem ris_lt {e : Int} {q : Int → Int} (h : ∀ k, 0 ≤ k → k + 1 < e → q k < q (k + 1)) {a b : Int} (a0 : 0 ≤ a) (ab : a < b) (b1 : b < e) : q a + (b - a) ≤ q b := by
  have := ris_m h a0 (b - a).toNat (by omega)
  rw [show a + ((b - a).toNat : Int) = b by omega] at this
  omega
theorem ris_i {e : Int} {q : Int → Int} (h : ∀ k, 0 ≤ k → k + 1 < e → q k < q (k + 1)) {a b : Int} (a0 : 0 ≤ a) (a1 : a < e) (b0 : 0 ≤ b) (b1 : b < e) (hq : q a = q b) : a = b := by
  by_cases z : a < b
  · have := ris_lt h a0 z b1; omega
  · by_cases z2 : b < a
    · have := ris_lt h b0 z2 a1; omega
    · omega
theorem Cmb.up {w : Int → Int} {sz e : Int} {q : Int → Int} (h : Cmb w sz e q) : ∀ k, 0 ≤ k → k + 1 < e → q k < q (k + 1) := fun k k0 k1 => (h k k0 (by omega)).2.2 k1
/-- the blanks, then the others -/
def plc (b : Int) (pb q : Int → Int) (c : Int) : Int := if c < b then pb c else q (c - b)
theorem plc_b {b : Int} {pb q : Int → Int} {c : Int} (h : c < b) : plc b pb q c = pb c := if_pos h
theorem plc_q {b : Int} {pb q : Int → Int} {k : Int} (h : 0 ≤ k) : plc b pb q (b + k) = q k := by
  unfold plc
  rw [if_neg (by omega), show b + k - b = k by omega]
/-- blanks: in range, different -/
def Blk (w : Int → Int) (sz b : Int) (pb : Int → Int) : Prop := 0 ≤ b ∧ (∀ c, 0 ≤ c → c < b → (0 ≤ pb c ∧ pb c < sz) ∧ w (pb c) = 16) ∧ ∀ a c, 0 ≤ a → a < b → 0 ≤ c → c < b → pb a = pb c → a = c
theorem plc_r {w : Int → Int} {sz b e : Int} {pb q : Int → Int} (hb : Blk w sz b pb) (hq : Cmb w sz e q) {c : Int} (c0 : 0 ≤ c) (c1 : c < b + e) : 0 ≤ plc b pb q c ∧ plc b pb q c < sz := by
  by_cases z : c < b
  · rw [plc_b z]; exact (hb.2.1 c c0 z).1
  · rw [show c = b + (c - b) by omega, plc_q (by omega)]; exact (hq (c - b) (by omega) (by omega)).1
theorem plc_d {w : Int → Int} {sz b e : Int} {pb q : Int → Int} (hb : Blk w sz b pb) (hq : Cmb w sz e q) {a c : Int} (a0 : 0 ≤ a) (a1 : a < b + e) (c0 : 0 ≤ c) (c1 : c < b + e) (h : plc b pb q a = plc b pb q c) : a = c := by
  by_cases z : a < b
  · by_cases z2 : c < b
    · rw [plc_b z, plc_b z2] at h; exact hb.2.2 a c a0 z c0 z2 h
    · rw [plc_b z, show c = b + (c - b) by omega, plc_q (by omega)] at h
      have := (hb.2.1 a a0 z).2
      rw [h] at this
      exact absurd this (hq (c - b) (by omega) (by omega)).2.1
  · by_cases z2 : c < b
    · rw [plc_b z2, show a = b + (a - b) by omega, plc_q (by omega)] at h
      have := (hb.2.1 c c0 z2).2
      rw [← h] at this
      exact absurd this (hq (a - b) (by omega) (by omega)).2.1
    · rw [show a = b + (a - b) by omega, show c = b + (c - b) by omega, plc_q (by omega), plc_q (by omega)] at h
      have := ris_i hq.up (a := a - b) (b := c - b) (by omega) (by omega) (by omega) (by omega) h
      omega
theorem Off.cg {W z pl pl' : Int → Int} {sz : Int} {m : Nat} (h : Off W z pl sz m) (e : ∀ c : Int, 0 ≤ c → c < m → pl' c = pl c) : Off W z pl' sz m := ⟨h.1, fun i i0 i1 q => h.2 i i0 i1 (fun ⟨c, c1, c2⟩ => q ⟨c, c1, by rw [e c c1.1 c1.2]; exact c2⟩)⟩
/-- a set that mends -/
def OKq (z : Int → Int) (sz n b : Int) (pb : Int → Int) (e : Int) (q : Int → Int) : Prop := ∃ W, Off W z (plc b pb q) sz (b + e).toNat ∧ Rgt W sz n
/-- an earlier set -/
def Lx (q' q : Int → Int) (e : Int) : Prop := ∃ k, (0 ≤ k ∧ k < e) ∧ (∀ j, 0 ≤ j → j < k → q' j = q j) ∧ q' k < q k
theorem Lx.tri {q' q : Int → Int} : ∀ e : Nat, (∀ k : Int, 0 ≤ k → k < e → q' k = q k) ∨ Lx q' q e ∨ Lx q q' e
  | 0 => .inl (fun k k0 k1 => by omega)
  | e + 1 => by
    rcases Lx.tri (q' := q') (q := q) e with h | ⟨k, k1, k2, k3⟩ | ⟨k, k1, k2, k3⟩
    · by_cases z : q' e = q e
      · refine .inl (fun k k0 k1 => ?_)
        by_cases y : k = e
        · rw [y]; exact z
        · exact h k k0 (by omega)
      · by_cases y : q' e < q e
        · exact .inr (.inl ⟨e, by omega, fun j j0 j1 => h j j0 j1, y⟩)
        · exact .inr (.inr ⟨e, by omega, fun j j0 j1 => (h j j0 j1).symm, by omega⟩)
    · exact .inr (.inl ⟨k, by omega, k2, k3⟩)
    · exact .inr (.inr ⟨k, by omega, k2, k3⟩)
/-- sets that begin so -/
def Ext (w : Int → Int) (sz e d : Int) (q0 : Int → Int) (fr : Int) (q : Int → Int) : Prop := Cmb w sz e q ∧ (∀ k, 0 ≤ k → k < d → q k = q0 k) ∧ (d < e → fr ≤ q d)
/-- rising numbers of places -/
def Cix (P e : Int) (a : Int → Int) : Prop := ∀ k, 0 ≤ k → k < e → 0 ≤ a k ∧ a k ≤ P - e + k ∧ (k + 1 < e → a k < a (k + 1))
theorem Cix.up {P e : Int} {a : Int → Int} (h : Cix P e a) : ∀ k, 0 ≤ k → k + 1 < e → a k < a (k + 1) := fun k k0 k1 => (h k k0 (by omega)).2.2 k1
/-- the places that are not blank -/
def Plz (w : Int → Int) (sz P : Int) (pp : Int → Int) : Prop := 0 ≤ P ∧ (∀ k, 0 ≤ k → k < P → (0 ≤ pp k ∧ pp k < sz) ∧ w (pp k) ≠ 16) ∧ (∀ k, 0 ≤ k → k + 1 < P → pp k < pp (k + 1)) ∧ ∀ i, 0 ≤ i → i < sz → w i ≠ 16 → ∃ k, (0 ≤ k ∧ k < P) ∧ pp k = i
theorem Plz.lt {w : Int → Int} {sz P : Int} {pp : Int → Int} (h : Plz w sz P pp) {a b : Int} (a0 : 0 ≤ a) (a1 : a < P) (b0 : 0 ≤ b) (b1 : b < P) : pp a < pp b ↔ a < b := by
  constructor
  · intro q
    by_cases z : a < b
    · exact z
    · by_cases y : a = b
      · rw [y] at q; omega
      · have := ris_lt h.2.2.1 b0 (show b < a by omega) a1; omega
  · intro q
    have := ris_lt h.2.2.1 a0 q b1; omega
theorem Cix.cmb {w : Int → Int} {sz P e : Int} {pp a : Int → Int} (h : Plz w sz P pp) (ha : Cix P e a) : Cmb w sz e (fun k => pp (a k)) := fun k k0 k1 => by
  obtain ⟨a0, a1, a2⟩ := ha k k0 k1
  obtain ⟨p1, p2⟩ := h.2.1 (a k) a0 (by omega)
  refine ⟨p1, p2, fun k2 => ?_⟩
  have b := ha (k + 1) (by omega) k2
  exact (h.lt a0 (by omega) b.1 (by omega)).mpr (a2 k2)
theorem Cmb.cix {w : Int → Int} {sz P e : Int} {pp q : Int → Int} (h : Plz w sz P pp) (hq : Cmb w sz e q) : ∃ a, Cix P e a ∧ ∀ k, 0 ≤ k → k < e → pp (a k) = q k := by
  have ex : ∀ k, ∃ a : Int, 0 ≤ k → k < e → (0 ≤ a ∧ a < P) ∧ pp a = q k := fun k => by
    by_cases z : 0 ≤ k ∧ k < e
    · obtain ⟨⟨r0, r1⟩, r2, -⟩ := hq k z.1 z.2
      obtain ⟨a, a1, a2⟩ := h.2.2.2 (q k) r0 r1 r2
      exact ⟨a, fun _ _ => ⟨a1, a2⟩⟩
    · exact ⟨0, fun k0 k1 => absurd ⟨k0, k1⟩ z⟩
  refine ⟨fun k => Classical.choose (ex k), ?_, fun k k0 k1 => (Classical.choose_spec (ex k) k0 k1).2⟩
  have sp : ∀ k, 0 ≤ k → k < e → (0 ≤ Classical.choose (ex k) ∧ Classical.choose (ex k) < P) ∧ pp (Classical.choose (ex k)) = q k := fun k k0 k1 => Classical.choose_spec (ex k) k0 k1
  generalize hf : (fun k => Classical.choose (ex k)) = f
  have fe : ∀ k, Classical.choose (ex k) = f k := fun k => by rw [← hf]
  have sp' : ∀ k, 0 ≤ k → k < e → (0 ≤ f k ∧ f k < P) ∧ pp (f k) = q k := fun k k0 k1 => by
    have := sp k k0 k1
    rw [fe] at this
    exact this
  have up : ∀ k, 0 ≤ k → k + 1 < e → f k < f (k + 1) := fun k k0 k1 => by
    obtain ⟨u1, u2⟩ := sp' k k0 (by omega)
    obtain ⟨v1, v2⟩ := sp' (k + 1) (by omega) k1
    refine (h.lt u1.1 u1.2 v1.1 v1.2).mp ?_
    rw [u2, v2]
    exact hq.up k k0 k1
  intro k k0 k1
  have a := (sp' k k0 k1).1
  refine ⟨a.1, ?_, fun k2 => up k k0 k2⟩
  by_cases z : k = e - 1
  · omega
  · have l := ris_lt up k0 (show k < e - 1 by omega) (show e - 1 < e by omega)
    have t := (sp' (e - 1) (by omega) (by omega)).1
    omega
/-- the order is the same -/
theorem Lx.ix {w : Int → Int} {sz P e : Int} {pp a a' : Int → Int} (h : Plz w sz P pp) (ha : Cix P e a) (ha' : Cix P e a') : Lx (fun k => pp (a' k)) (fun k => pp (a k)) e ↔ Lx a' a e := by
  have rg : ∀ {f : Int → Int}, Cix P e f → ∀ k, 0 ≤ k → k < e → 0 ≤ f k ∧ f k < P := fun hf k k0 k1 => by
    have := hf k k0 k1
    omega
  have inj : ∀ k, 0 ≤ k → k < e → pp (a' k) = pp (a k) → a' k = a k := fun k k0 k1 hk => by
    have r1 := rg ha k k0 k1
    have r2 := rg ha' k k0 k1
    exact ris_i h.2.2.1 r2.1 r2.2 r1.1 r1.2 hk
  constructor
  · rintro ⟨k, k1, k2, k3⟩
    refine ⟨k, k1, fun j j0 j1 => inj j j0 (by omega) (k2 j j0 j1), ?_⟩
    have r1 := rg ha k k1.1 k1.2
    have r2 := rg ha' k k1.1 k1.2
    exact (h.lt r2.1 r2.2 r1.1 r1.2).mp k3
  · rintro ⟨k, k1, k2, k3⟩
    refine ⟨k, k1, fun j j0 j1 => by show pp (a' j) = pp (a j); rw [k2 j j0 j1], ?_⟩
    have r1 := rg ha k k1.1 k1.2
    have r2 := rg ha' k k1.1 k1.2
    exact (h.lt r2.1 r2.2 r1.1 r1.2).mpr k3
/-- a number for each set, in their order -/
def vlx (a : Int → Int) : Nat → Int
  | 0 => 0
  | k + 1 => 16 * vlx a k + a k
theorem vlx_b {a : Int → Int} : ∀ e : Nat, (∀ k : Int, 0 ≤ k → k < e → 0 ≤ a k ∧ a k ≤ 15) → 0 ≤ vlx a e ∧ vlx a e < 16 ^ e
  | 0, _ => by show (0 : Int) ≤ 0 ∧ (0 : Int) < 1; decide
  | e + 1, h => by
    have i := vlx_b e (fun k k0 k1 => h k k0 (by omega))
    have r := h e (by omega) (by omega)
    show 0 ≤ 16 * vlx a e + a e ∧ 16 * vlx a e + a e < 16 ^ (e + 1)
    rw [Int.pow_succ]
    omega
theorem vlx_e {a c : Int → Int} : ∀ e : Nat, (∀ k : Int, 0 ≤ k → k < e → a k = c k) → vlx a e = vlx c e
  | 0, _ => rfl
  | e + 1, h => by
    show 16 * vlx a e + a e = 16 * vlx c e + c e
    rw [vlx_e e (fun k k0 k1 => h k k0 (by omega)), h e (by omega) (by omega)]
theorem vlx_l {a c : Int → Int} : ∀ e : Nat, (∀ k : Int, 0 ≤ k → k < e → 0 ≤ a k ∧ a k ≤ 15) → (∀ k : Int, 0 ≤ k → k < e → 0 ≤ c k ∧ c k ≤ 15) → Lx a c e → vlx a e < vlx c e
  | 0, _, _, ⟨k, k1, _⟩ => by omega
  | e + 1, ha, hc, ⟨k, k1, k2, k3⟩ => by
    show 16 * vlx a e + a e < 16 * vlx c e + c e
    have ra := ha e (by omega) (by omega)
    have rc := hc e (by omega) (by omega)
    by_cases z : k = e
    · rw [vlx_e (a := a) (c := c) e (fun j j0 j1 => k2 j j0 (by omega))]
      rw [z] at k3
      omega
    · have i := vlx_l e (fun k k0 k1 => ha k k0 (by omega)) (fun k k0 k1 => hc k k0 (by omega)) ⟨k, by omega, k2, k3⟩
      omega
/-- the next set: none lies between -/
def nxs (a : Int → Int) (k : Int) (i : Int) : Int := if i < k then a i else a k + 1 + (i - k)
theorem nxs_c {P e k : Int} {a : Int → Int} (ha : Cix P e a) (hk : 0 ≤ k ∧ k < e) (h : a k < P - e + k) : Cix P e (nxs a k) := fun i i0 i1 => by
  unfold nxs
  have r := ha k hk.1 hk.2
  by_cases z : i < k
  · have ri := ha i i0 i1
    rw [if_pos z]
    refine ⟨ri.1, ri.2.1, fun i2 => ?_⟩
    by_cases y : i + 1 < k
    · rw [if_pos y]; exact ri.2.2 i2
    · rw [if_neg y]
      have := ri.2.2 i2
      rw [show i + 1 = k by omega] at this ⊢
      omega
  · rw [if_neg z, if_neg (show ¬ i + 1 < k by omega)]
    omega
theorem nxs_l {e k : Int} {a : Int → Int} (hk : 0 ≤ k ∧ k < e) : Lx a (nxs a k) e := by
  refine ⟨k, hk, fun j j0 j1 => ?_, ?_⟩
  · unfold nxs; rw [if_pos j1]
  · unfold nxs; rw [if_neg (by omega)]; omega
theorem nxs_m {P e k : Int} {a c : Int → Int} (hk : 0 ≤ k ∧ k < e) (hc : Cix P e c) (hi : ∀ i, k < i → i < e → a i = P - e + i) (h : Lx c (nxs a k) e) : Lx c a e ∨ ∀ j, 0 ≤ j → j < e → c j = a j := by
  obtain ⟨t, t1, t2, t3⟩ := h
  have nl : ∀ i, i < k → nxs a k i = a i := fun i hi => by unfold nxs; rw [if_pos hi]
  have nk : nxs a k k = a k + 1 := by unfold nxs; rw [if_neg (by omega)]; omega
  have ng : ∀ i, k ≤ i → nxs a k i = a k + 1 + (i - k) := fun i hi => by unfold nxs; rw [if_neg (by omega)]
  by_cases z : t < k
  · refine .inl ⟨t, t1, fun j j0 j1 => ?_, ?_⟩
    · rw [t2 j j0 j1, nl j (by omega)]
    · rw [← nl t z]; exact t3
  · by_cases y : t = k
    · rw [y, nk] at t3
      have eq : ∀ j, 0 ≤ j → j < k → c j = a j := fun j j0 j1 => by rw [t2 j j0 (by omega), nl j j1]
      by_cases x : c k = a k
      · have all : ∀ u : Nat, (∀ j, 0 ≤ j → j < e → c j = a j) ∨ (∃ i, (0 ≤ i ∧ i < e) ∧ (∀ j, 0 ≤ j → j < i → c j = a j) ∧ c i < a i) ∨ ∀ j, 0 ≤ j → j < k + 1 + u → j < e → c j = a j := fun u => by
          induction u with
          | zero =>
            refine .inr (.inr (fun j j0 j1 j2 => ?_))
            by_cases jk : j = k
            · rw [jk]; exact x
            · exact eq j j0 (by omega)
          | succ u ih =>
            rcases ih with ih | ih | ih
            · exact .inl ih
            · exact .inr (.inl ih)
            · by_cases le : k + 1 + u < e
              · by_cases q : c (k + 1 + u) = a (k + 1 + u)
                · refine .inr (.inr (fun j j0 j1 j2 => ?_))
                  by_cases jk : j = k + 1 + u
                  · rw [jk]; exact q
                  · exact ih j j0 (by omega) j2
                · have m1 := hi (k + 1 + u) (by omega) le
                  have m2 := (hc (k + 1 + u) (by omega) le).2.1
                  exact .inr (.inl ⟨k + 1 + u, by omega, fun j j0 j1 => ih j j0 j1 (by omega), by omega⟩)
              · exact .inl (fun j j0 j1 => ih j j0 (by omega) j1)
        rcases all e.toNat with h | ⟨i, i1, i2, i3⟩ | h
        · exact .inr h
        · exact .inl ⟨i, i1, i2, i3⟩
        · exact .inr (fun j j0 j1 => h j j0 (by omega) j1)
      · exact .inl ⟨k, hk, eq, by omega⟩
    · have ck : c k = a k + 1 := by rw [t2 k hk.1 (by omega), nk]
      have := ris_lt hc.up hk.1 (show k < t by omega) t1.2
      rw [ng t (by omega)] at t3
      omega
/-- the last set -/
theorem nxs_z {P e : Int} {a c : Int → Int} (hc : Cix P e c) (hi : ∀ i, 0 ≤ i → i < e → a i = P - e + i) : Lx c a e ∨ ∀ j, 0 ≤ j → j < e → c j = a j := by
  rcases Lx.tri (q' := c) (q := a) e.toNat with h | h | ⟨k, k1, k2, k3⟩
  · exact .inr (fun j j0 j1 => h j j0 (by omega))
  · obtain ⟨k, k1, k2, k3⟩ := h
    exact .inl ⟨k, by omega, k2, k3⟩
  · have := hi k k1.1 (by omega)
    have := (hc k k1.1 (by omega)).2.1
    omega
end Comb
