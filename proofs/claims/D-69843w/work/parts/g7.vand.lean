/-! ===== pure: powers of different places are independent; right words ===== -/
section Vand
theorem g15b {p : Nat → Nat → Bool} (h : ((List.range 15).all fun a => (List.range 15).all fun b => p a b) = true) {a b : Nat} (ha : a < 15) (hb : b < 15) : p a b = true := by
  have h1 := List.all_eq_true.mp h a (List.mem_range.mpr ha)
  exact List.all_eq_true.mp h1 b (List.mem_range.mpr hb)
theorem gpw_add {a b : Nat} (ha : a < 15) (hb : b < 15) : gpw ((a + b) % 15) = gfm (gpw a) (gpw b) := of_decide_eq_true (g15b (p := fun a b => decide (gpw ((a + b) % 15) = gfm (gpw a) (gpw b))) (by decide +kernel) ha hb)
theorem gpw_inj {a b : Nat} (ha : a < 15) (hb : b < 15) : gpw a = gpw b → a = b := of_decide_eq_true (g15b (p := fun a b => decide (gpw a = gpw b → a = b)) (by decide +kernel) ha hb)
theorem gpw_nz {a : Nat} (ha : a < 15) : gpw a ≠ 0 := of_decide_eq_true (g15b (p := fun a _ => decide (gpw a ≠ 0)) (by decide +kernel) ha (show 0 < 15 by decide))
theorem gfm_nz {a b : Int} (ha : R16 a) (hb : R16 b) : gfm a b = 0 → b ≠ 0 → a = 0 := of_decide_eq_true (g16b (p := fun a b => decide (gfm a b = 0 → b ≠ 0 → a = 0)) (by decide +kernel) ha hb)
theorem xor_eq {a b : Int} (ha : R16 a) (hb : R16 b) : rh_xor a b = 0 ↔ a = b := of_decide_eq_true (g16b (p := fun a b => decide (rh_xor a b = 0 ↔ a = b)) (by decide +kernel) ha hb)
theorem pwr_s {e k : Int} : pwr (e + 1) k = gfm (pwr e k) (pwr 0 k) := by
  unfold pwr
  have h1 : (e + 1 + 1) * k = (e + 1) * k + k := by rw [Int.add_mul (e + 1) 1 k, Int.one_mul]
  rw [h1, Int.zero_add, Int.one_mul]
  generalize (e + 1) * k = t
  rw [← gpw_add (a := (t % 15).toNat) (b := (k % 15).toNat) (by omega) (by omega)]
  congr 1
  omega
theorem pwr_r (e k : Int) : R16 (pwr e k) := gpw_r _
theorem pwr_nz (e k : Int) : pwr e k ≠ 0 := gpw_nz (by omega)
theorem pwr_i {a b : Int} (ha : 0 ≤ a ∧ a < 15) (hb : 0 ≤ b ∧ b < 15) (h : pwr 0 a = pwr 0 b) : a = b := by
  unfold pwr at h
  rw [Int.zero_add, Int.one_mul, Int.one_mul] at h
  have := gpw_inj (a := (a % 15).toNat) (b := (b % 15).toNat) (by omega) (by omega) h
  omega
theorem xs_t {s s' r r' : Int → Int} : ∀ m : Nat, (∀ c : Int, 0 ≤ c → c < m → gfm (s c) (r c) = gfm (s' c) (r' c)) → xs s r m = xs s' r' m
  | 0, _ => rfl
  | m + 1, h => by
    show rh_xor (xs s r m) (gfm (s m) (r m)) = rh_xor (xs s' r' m) (gfm (s' m) (r' m))
    rw [xs_t m (fun c c0 c1 => h c c0 (by omega)), h m (by omega) (by omega)]
theorem vand : ∀ (m n : Nat) (x k : Int → Int), m ≤ n → (∀ c : Int, 0 ≤ c → c < m → R16 (x c)) → (∀ c : Int, 0 ≤ c → c < m → 0 ≤ k c ∧ k c < 15) → (∀ a b : Int, 0 ≤ a → a < m → 0 ≤ b → b < m → k a = k b → a = b) → (∀ e : Int, 0 ≤ e → e < n → xs x (fun c => pwr e (k c)) m = 0) → ∀ c : Int, 0 ≤ c → c < m → x c = 0
  | 0, _, _, _, _, _, _, _, _, c, c0, c1 => by omega
  | m + 1, 0, _, _, h, _, _, _, _, _, _, _ => by omega
  | m + 1, n + 1, x, k, hmn, hx, hk, hd, hz, c, c0, c1 => by
    have rb := pwr_r 0 (k m)
    have lo : ∀ c : Int, 0 ≤ c → c < m → x c = 0 := fun c c0 c1 => by
      have ra := pwr_r 0 (k c)
      have hx' : ∀ c : Int, 0 ≤ c → c < m → R16 (gfm (x c) (rh_xor (pwr 0 (k c)) (pwr 0 (k m)))) := fun c c0 c1 => gfm_r (hx c c0 (by omega)) (xor_r (pwr_r 0 (k c)) rb)
      have q := vand m n (fun c => gfm (x c) (rh_xor (pwr 0 (k c)) (pwr 0 (k m)))) k (by omega) hx' (fun c c0 c1 => hk c c0 (by omega)) (fun a b a0 a1 b0 b1 => hd a b a0 (by omega) b0 (by omega)) (fun e e0 e1 => by
        have z1 := hz (e + 1) (by omega) (by omega)
        have z0 := hz e (by omega) (by omega)
        have t : xs x (fun c => rh_xor (pwr (e + 1) (k c)) (gfm (pwr 0 (k m)) (pwr e (k c)))) (m + 1) = 0 := by
          rw [xs_x (m + 1) hx (fun c _ _ => pwr_r _ _) (fun c _ _ => gfm_r rb (pwr_r _ _)), xs_g (row := fun c => pwr e (k c)) rb (m + 1) hx (fun c _ _ => pwr_r _ _), z1, z0, (gfm_0 rb).2.1, (xor_0 r16_0).1]
        have tm : rh_xor (pwr (e + 1) (k m)) (gfm (pwr 0 (k m)) (pwr e (k m))) = 0 := by
          rw [pwr_s, gfm_c (pwr_r e (k m)) rb, (xor_0 (gfm_r rb (pwr_r e (k m)))).2.2]
        have u : rh_xor (xs x (fun c => rh_xor (pwr (e + 1) (k c)) (gfm (pwr 0 (k m)) (pwr e (k c)))) m) (gfm (x m) (rh_xor (pwr (e + 1) (k m)) (gfm (pwr 0 (k m)) (pwr e (k m))))) = 0 := t
        have rr := xs_r (s := x) (row := fun c => rh_xor (pwr (e + 1) (k c)) (gfm (pwr 0 (k m)) (pwr e (k c)))) m (fun c c0 c1 => hx c c0 (by omega)) (fun c _ _ => xor_r (pwr_r _ _) (gfm_r rb (pwr_r _ _)))
        rw [tm, (gfm_0 (hx m (by omega) (by omega))).2.1, (xor_0 rr).2.1] at u
        refine Eq.trans ?_ u
        refine xs_t m (fun c c0 c1 => ?_)
        show gfm (gfm (x c) (rh_xor (pwr 0 (k c)) (pwr 0 (k m)))) (pwr e (k c)) = gfm (x c) (rh_xor (pwr (e + 1) (k c)) (gfm (pwr 0 (k m)) (pwr e (k c))))
        have p1 := pwr_r 0 (k c)
        have p2 := pwr_r e (k c)
        have xx := hx c c0 (by omega)
        rw [gfm_as xx (xor_r p1 rb) p2, gfm_c (xor_r p1 rb) p2, gfm_x p2 p1 rb, pwr_s, gfm_c rb p2]) c c0 c1
      have nz : rh_xor (pwr 0 (k c)) (pwr 0 (k m)) ≠ 0 := fun z => by
        have := pwr_i (hk c c0 (by omega)) (hk m (by omega) (by omega)) ((xor_eq ra rb).mp z)
        have := hd c m c0 (by omega) (by omega) (by omega) this
        omega
      exact gfm_nz (hx c c0 (by omega)) (xor_r ra rb) q nz
    by_cases z : c = m
    · have z0 := hz 0 (by decide) (by omega)
      have u : rh_xor (xs x (fun c => pwr 0 (k c)) m) (gfm (x m) (pwr 0 (k m))) = 0 := z0
      rw [xs_z m (fun c c0 c1 => by rw [lo c c0 c1, (gfm_0 (pwr_r _ _)).1]), (xor_0 (gfm_r (hx m (by omega) (by omega)) rb)).1] at u
      rw [z]
      exact gfm_nz (hx m (by omega) (by omega)) rb u (pwr_nz _ _)
    · exact lo c c0 (by omega)
/-- a right word -/
def Rgt (W : Int → Int) (sz n : Int) : Prop := ∀ e, 0 ≤ e → e < n → msum W sz (e + 1) sz.toNat = 0
/-- a word that is as z but at some places -/
def Off (W z pl : Int → Int) (sz : Int) (m : Nat) : Prop := (∀ i, 0 ≤ i → i < sz → R16 (W i)) ∧ ∀ i, 0 ≤ i → i < sz → (¬ ∃ c, (0 ≤ c ∧ c < (m : Int)) ∧ pl c = i) → W i = z i
/-- some numbers put in -/
def ins (z pl y : Int → Int) : Nat → Int → Int
  | 0, i => z i
  | m + 1, i => if pl m = i then y m else ins z pl y m i
theorem ins_o {z pl y : Int → Int} {i : Int} : ∀ m : Nat, (¬ ∃ c, (0 ≤ c ∧ c < (m : Int)) ∧ pl c = i) → ins z pl y m i = z i
  | 0, _ => rfl
  | m + 1, h => by
    show (if pl m = i then y m else ins z pl y m i) = z i
    rw [if_neg (fun q => h ⟨m, by omega, q⟩)]
    exact ins_o m (fun ⟨c, c1, c2⟩ => h ⟨c, by omega, c2⟩)
theorem ins_p {z pl y : Int → Int} : ∀ m : Nat, (∀ a b : Int, 0 ≤ a → a < m → 0 ≤ b → b < m → pl a = pl b → a = b) → ∀ c : Int, 0 ≤ c → c < m → ins z pl y m (pl c) = y c
  | 0, _, c, c0, c1 => by omega
  | m + 1, hd, c, c0, c1 => by
    show (if pl m = pl c then y m else ins z pl y m (pl c)) = y c
    by_cases q : pl m = pl c
    · rw [if_pos q, hd m c (by omega) (by omega) c0 c1 q]
    · rw [if_neg q]
      have : c ≠ m := fun z => q (by rw [z])
      exact ins_p m (fun a b a0 a1 b0 b1 => hd a b a0 (by omega) b0 (by omega)) c c0 (by omega)
/-- a word as z but at places: right if its numbers there answer the rows -/
theorem Off.rgt {W z pl : Int → Int} {sz n : Int} {m : Nat} (h : Off W z pl sz m) (hp : ∀ c : Int, 0 ≤ c → c < m → 0 ≤ pl c ∧ pl c < sz) (hd : ∀ a b : Int, 0 ≤ a → a < m → 0 ≤ b → b < m → pl a = pl b → a = b) : Rgt W sz n ↔ ∀ e, 0 ≤ e → e < n → xs (fun c => W (pl c)) (fun c => pwr e (sz - 1 - pl c)) m = msum (wip0 z pl m) sz (e + 1) sz.toNat := by
  have hW : ∀ i : Int, 0 ≤ i → i < ((sz.toNat : Nat) : Int) → R16 (W i) := fun i i0 i1 => h.1 i i0 (by omega)
  have hw : ∀ i : Int, 0 ≤ i → i < ((sz.toNat : Nat) : Int) → wip0 W pl m i = wip0 z pl m i := fun i i0 i1 => by
    unfold wip0
    by_cases q : ∃ c, (0 ≤ c ∧ c < (m : Int)) ∧ pl c = i
    · rw [rh_if_t q, rh_if_t q]
    · rw [rh_if_f q, rh_if_f q]; exact h.2 i i0 (by omega) q
  have hr : ∀ i : Int, 0 ≤ i → i < ((sz.toNat : Nat) : Int) → R16 (wip0 W pl m i) := fun i i0 i1 => by
    unfold wip0
    by_cases q : ∃ c, (0 ≤ c ∧ c < (m : Int)) ∧ pl c = i
    · rw [rh_if_t q]; exact r16_0
    · rw [rh_if_f q]; exact hW i i0 i1
  have key : ∀ e : Int, msum W sz (e + 1) sz.toNat = rh_xor (msum (wip0 z pl m) sz (e + 1) sz.toNat) (xs (fun c => W (pl c)) (fun c => pwr e (sz - 1 - pl c)) m) := fun e => by
    rw [msum_p hW m (fun c c0 c1 => ⟨(hp c c0 c1).1, by have := (hp c c0 c1).2; omega⟩) hd, msum_e _ hw]
  have ra : ∀ e : Int, R16 (msum (wip0 z pl m) sz (e + 1) sz.toNat) := fun e => by rw [← msum_e _ hw]; exact msum_r _ hr
  have rx : ∀ e : Int, R16 (xs (fun c => W (pl c)) (fun c => pwr e (sz - 1 - pl c)) m) := fun e => xs_r m (fun c c0 c1 => h.1 _ (hp c c0 c1).1 (hp c c0 c1).2) (fun c _ _ => pwr_r _ _)
  constructor
  · intro R e e0 e1
    have q := R e e0 e1
    rw [key e] at q
    exact ((xor_eq (ra e) (rx e)).mp q).symm
  · intro S e e0 e1
    rw [key e]
    exact (xor_eq (ra e) (rx e)).mpr (S e e0 e1).symm
/-- there is but one -/
theorem Off.one {W W' z pl : Int → Int} {sz : Int} {m n : Nat} (h : Off W z pl sz m) (h' : Off W' z pl sz m) (hs : sz ≤ 15) (hmn : m ≤ n) (hp : ∀ c : Int, 0 ≤ c → c < m → 0 ≤ pl c ∧ pl c < sz) (hd : ∀ a b : Int, 0 ≤ a → a < m → 0 ≤ b → b < m → pl a = pl b → a = b) (r : Rgt W sz n) (r' : Rgt W' sz n) : ∀ i, 0 ≤ i → i < sz → W i = W' i := by
  have s := (h.rgt (n := n) hp hd).mp r
  have s' := (h'.rgt (n := n) hp hd).mp r'
  have v := vand m n (fun c => rh_xor (W (pl c)) (W' (pl c))) (fun c => sz - 1 - pl c) hmn (fun c c0 c1 => xor_r (h.1 _ (hp c c0 c1).1 (hp c c0 c1).2) (h'.1 _ (hp c c0 c1).1 (hp c c0 c1).2)) (fun c c0 c1 => by have := hp c c0 c1; omega) (fun a b a0 a1 b0 b1 e => hd a b a0 a1 b0 b1 (by omega)) (fun e e0 e1 => by
    have a1 := s e e0 e1
    have a2 := s' e e0 e1
    have rx : R16 (xs (fun c => W (pl c)) (fun c => pwr e (sz - 1 - pl c)) m) := xs_r m (fun c c0 c1 => h.1 _ (hp c c0 c1).1 (hp c c0 c1).2) (fun c _ _ => pwr_r _ _)
    have e1 : xs (fun c => rh_xor (W (pl c)) (W' (pl c))) (fun c => pwr e (sz - 1 - pl c)) m = xs (fun c => pwr e (sz - 1 - pl c)) (fun c => rh_xor (W (pl c)) (W' (pl c))) m := xs_t m (fun c c0 c1 => gfm_c (xor_r (h.1 _ (hp c c0 c1).1 (hp c c0 c1).2) (h'.1 _ (hp c c0 c1).1 (hp c c0 c1).2)) (pwr_r _ _))
    have e2 : xs (fun c => pwr e (sz - 1 - pl c)) (fun c => W (pl c)) m = xs (fun c => W (pl c)) (fun c => pwr e (sz - 1 - pl c)) m := xs_t m (fun c c0 c1 => gfm_c (pwr_r _ _) (h.1 _ (hp c c0 c1).1 (hp c c0 c1).2))
    have e3 : xs (fun c => pwr e (sz - 1 - pl c)) (fun c => W' (pl c)) m = xs (fun c => W' (pl c)) (fun c => pwr e (sz - 1 - pl c)) m := xs_t m (fun c c0 c1 => gfm_c (pwr_r _ _) (h'.1 _ (hp c c0 c1).1 (hp c c0 c1).2))
    rw [e1, xs_x m (fun c _ _ => pwr_r _ _) (fun c c0 c1 => h.1 _ (hp c c0 c1).1 (hp c c0 c1).2) (fun c c0 c1 => h'.1 _ (hp c c0 c1).1 (hp c c0 c1).2), e2, e3, a2, ← a1, (xor_0 rx).2.2])
  intro i i0 i1
  by_cases q : ∃ c, (0 ≤ c ∧ c < (m : Int)) ∧ pl c = i
  · obtain ⟨c, c1, c2⟩ := q
    rw [← c2]
    exact (xor_eq (h.1 _ (hp c c1.1 c1.2).1 (hp c c1.1 c1.2).2) (h'.1 _ (hp c c1.1 c1.2).1 (hp c c1.1 c1.2).2)).mp (v c c1.1 c1.2)
  · rw [h.2 i i0 i1 q, h'.2 i i0 i1 q]
end Vand
