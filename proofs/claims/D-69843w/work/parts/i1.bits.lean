/-! ===== pure: how many bits a long has ===== -/
section Bits
theorem nand_split (x m : Nat) : x &&& m = (x % 256 &&& m % 256) + 256 * (x / 256 &&& m / 256) := by
  have h1 := Nat.and_mod_two_pow (a := x) (b := m) (n := 8)
  have h2 := Nat.and_div_two_pow (a := x) (b := m) (n := 8)
  have h3 := Nat.div_add_mod (x &&& m) 256
  rw [show (2 : Nat) ^ 8 = 256 from rfl] at h1 h2
  rw [← h1, ← h2]
  omega
/-- a mask of so many equal bytes -/
def mk8 (c : Nat) : Nat → Nat
  | 0 => 0
  | j + 1 => c + 256 * mk8 c j
theorem mk8_d {c : Nat} (hc : c < 256) (j : Nat) : mk8 c (j + 1) % 256 = c ∧ mk8 c (j + 1) / 256 = mk8 c j := by
  show (c + 256 * mk8 c j) % 256 = c ∧ (c + 256 * mk8 c j) / 256 = mk8 c j
  omega
def t1 (j n : Nat) : Nat := n - ((n / 2) &&& mk8 85 j)
def t2 (j n : Nat) : Nat := (n &&& mk8 51 j) + ((n / 4) &&& mk8 51 j)
def t3 (j n : Nat) : Nat := (n + n / 16) &&& mk8 15 j
theorem b256 {p : Nat → Bool} (h : ((List.range 256).all p) = true) {a : Nat} (ha : a < 256) : p a = true := List.all_eq_true.mp h a (List.mem_range.mpr ha)
theorem b256x {p : Nat → Nat → Bool} {k : Nat} (h : ((List.range 256).all fun a => (List.range k).all fun b => p a b) = true) {a b : Nat} (ha : a < 256) (hb : b < k) : p a b = true := List.all_eq_true.mp (List.all_eq_true.mp h a (List.mem_range.mpr ha)) b (List.mem_range.mpr hb)
theorem t1_s {j lo hi : Nat} (hl : lo < 256) : t1 (j + 1) (lo + 256 * hi) = t1 1 lo + 256 * t1 j hi := by
  unfold t1
  rw [nand_split ((lo + 256 * hi) / 2), (mk8_d (by decide) j).1, (mk8_d (by decide) j).2]
  have e1 : (lo + 256 * hi) / 2 / 256 = hi / 2 := by omega
  have e2 : (lo + 256 * hi) / 2 % 256 = lo / 2 + 128 * (hi % 2) := by omega
  have e3 : (lo / 2 + 128 * (hi % 2)) &&& 85 = (lo / 2) &&& 85 := of_decide_eq_true (b256x (k := 2) (p := fun a b => decide ((a / 2 + 128 * b) &&& 85 = (a / 2) &&& 85)) (by decide +kernel) hl (by omega))
  have e4 : (lo / 2) &&& 85 ≤ lo := of_decide_eq_true (b256 (p := fun a => decide ((a / 2) &&& 85 ≤ a)) (by decide +kernel) hl)
  have e5 : (hi / 2 &&& mk8 85 j) ≤ hi := Nat.le_trans Nat.and_le_left (Nat.div_le_self _ _)
  rw [e1, e2, e3, show mk8 85 1 = 85 from rfl]
  omega
theorem t2_s {j lo hi : Nat} (hl : lo < 256) : t2 (j + 1) (lo + 256 * hi) = t2 1 lo + 256 * t2 j hi := by
  unfold t2
  rw [nand_split (lo + 256 * hi), nand_split ((lo + 256 * hi) / 4), (mk8_d (by decide) j).1, (mk8_d (by decide) j).2]
  have e1 : (lo + 256 * hi) / 4 / 256 = hi / 4 := by omega
  have e2 : (lo + 256 * hi) / 4 % 256 = lo / 4 + 64 * (hi % 4) := by omega
  have e3 : (lo / 4 + 64 * (hi % 4)) &&& 51 = (lo / 4) &&& 51 := of_decide_eq_true (b256x (k := 4) (p := fun a b => decide ((a / 4 + 64 * b) &&& 51 = (a / 4) &&& 51)) (by decide +kernel) hl (by omega))
  rw [e1, e2, e3, show (lo + 256 * hi) % 256 = lo by omega, show (lo + 256 * hi) / 256 = hi by omega, show mk8 51 1 = 51 from rfl]
  omega
/-- each half byte at most 4 -/
def nib (a : Nat) : Prop := a < 256 ∧ a % 16 ≤ 4 ∧ a / 16 ≤ 4
theorem t3_s {j lo hi : Nat} (hl : nib lo) (hh : hi % 16 ≤ 4) : t3 (j + 1) (lo + 256 * hi) = t3 1 lo + 256 * ((hi + hi / 16) &&& mk8 15 j) := by
  unfold t3
  obtain ⟨h1, h2, h3⟩ := hl
  rw [nand_split ((lo + 256 * hi) + (lo + 256 * hi) / 16), (mk8_d (by decide) j).1, (mk8_d (by decide) j).2]
  have e0 : (lo + 256 * hi) / 16 = lo / 16 + 16 * hi := by omega
  have e3 : ∀ b, b < 16 → ((lo + lo / 16 + 16 * b) % 256) &&& 15 = (lo + lo / 16) &&& 15 := fun b hb => of_decide_eq_true (b256x (k := 16) (p := fun a b => decide (((a + a / 16 + 16 * b) % 256) &&& 15 = (a + a / 16) &&& 15)) (by decide +kernel) h1 hb)
  have e4 : (lo + 256 * hi + (lo + 256 * hi) / 16) % 256 = (lo + lo / 16 + 16 * (hi % 16)) % 256 := by rw [e0]; omega
  have e5 : (lo + 256 * hi + (lo + 256 * hi) / 16) / 256 = hi + hi / 16 := by
    have z : lo + 256 * hi + (lo / 16 + 16 * hi) = (lo + lo / 16 + 16 * (hi % 16)) + 256 * (hi + hi / 16) := by
      have := Nat.div_add_mod hi 16
      omega
    rw [e0, z, Nat.add_mul_div_left _ _ (by decide), Nat.div_eq_of_lt (by omega), Nat.zero_add]
  rw [e4, e5, e3 _ (Nat.mod_lt _ (by decide)), show mk8 15 1 = 15 from rfl]
/-- the bits of a byte -/
def pb8 (a : Nat) : Nat := a % 2 + a / 2 % 2 + a / 4 % 2 + a / 8 % 2 + a / 16 % 2 + a / 32 % 2 + a / 64 % 2 + a / 128 % 2
theorem byte_c {a : Nat} (h : a < 256) : t1 1 a < 256 ∧ nib (t2 1 (t1 1 a)) ∧ t3 1 (t2 1 (t1 1 a)) = pb8 a ∧ pb8 a ≤ 8 := by
  have := of_decide_eq_true (b256 (p := fun a => decide (t1 1 a < 256 ∧ (t2 1 (t1 1 a) < 256 ∧ t2 1 (t1 1 a) % 16 ≤ 4 ∧ t2 1 (t1 1 a) / 16 ≤ 4) ∧ t3 1 (t2 1 (t1 1 a)) = pb8 a ∧ pb8 a ≤ 8)) (by decide +kernel) h)
  exact this
/-- the bytes' numbers of bits, packed -/
def pkb : Nat → Nat → Nat
  | 0, _ => 0
  | j + 1, n => pb8 (n % 256) + 256 * pkb j (n / 256)
theorem t2_n : ∀ (j n : Nat), t2 j (t1 j n) % 16 ≤ 4
  | 0, n => by
    show ((t1 0 n &&& 0) + (t1 0 n / 4 &&& 0)) % 16 ≤ 4
    rw [Nat.and_zero, Nat.and_zero]
    decide
  | j + 1, n => by
    have hl : n % 256 < 256 := Nat.mod_lt _ (by decide)
    have hn : n = n % 256 + 256 * (n / 256) := by omega
    obtain ⟨c1, c2, -, -⟩ := byte_c hl
    rw [hn, t1_s hl, t2_s c1]
    have := c2.2.1
    omega
theorem pkb_e : ∀ (j n : Nat), n < 256 ^ j → t3 j (t2 j (t1 j n)) = pkb j n
  | 0, n, h => by
    show ((t2 0 (t1 0 n)) + (t2 0 (t1 0 n)) / 16) &&& 0 = 0
    exact Nat.and_zero _
  | j + 1, n, h => by
    have hl : n % 256 < 256 := Nat.mod_lt _ (by decide)
    have hn : n = n % 256 + 256 * (n / 256) := by omega
    have hd : n / 256 < 256 ^ j := by
      rw [Nat.pow_succ] at h
      exact Nat.div_lt_of_lt_mul (by rw [Nat.mul_comm]; exact h)
    obtain ⟨c1, c2, c3, -⟩ := byte_c hl
    have e : t3 (j + 1) (t2 (j + 1) (t1 (j + 1) (n % 256 + 256 * (n / 256)))) = pb8 (n % 256) + 256 * t3 j (t2 j (t1 j (n / 256))) := by
      rw [t1_s hl, t2_s c1, t3_s c2 (t2_n j _), c3]
      rfl
    rw [← hn, pkb_e j _ hd] at e
    exact e
/-- all bits below 8 j -/
def pop (n : Nat) : Nat → Nat
  | 0 => 0
  | k + 1 => pop n k + n / 2 ^ k % 2
theorem pop_a (n a : Nat) : ∀ b : Nat, pop n (a + b) = pop n a + pop (n / 2 ^ a) b
  | 0 => rfl
  | b + 1 => by
    show pop n (a + b) + n / 2 ^ (a + b) % 2 = pop n a + (pop (n / 2 ^ a) b + n / 2 ^ a / 2 ^ b % 2)
    rw [pop_a n a b, Nat.div_div_eq_div_mul, ← Nat.pow_add]
    omega
theorem pb_h (n : Nat) {k : Nat} (hk : k ∣ 128) : n % 256 / k % 2 = n / k % 2 := by
  obtain ⟨q, hq⟩ := hk
  have e : 256 = k * (2 * q) := by rw [← Nat.mul_assoc, Nat.mul_comm k 2, Nat.mul_assoc, ← hq]
  have kp : 0 < k := Nat.pos_of_ne_zero (fun z => by rw [z] at hq; omega)
  rw [e, Nat.mod_mul_right_div_self, Nat.mod_mod_of_dvd _ ⟨q, rfl⟩]
theorem pop_8 (n : Nat) : pop n 8 = pb8 (n % 256) := by
  show 0 + n / 1 % 2 + n / 2 % 2 + n / 4 % 2 + n / 8 % 2 + n / 16 % 2 + n / 32 % 2 + n / 64 % 2 + n / 128 % 2 = n % 256 % 2 + n % 256 / 2 % 2 + n % 256 / 4 % 2 + n % 256 / 8 % 2 + n % 256 / 16 % 2 + n % 256 / 32 % 2 + n % 256 / 64 % 2 + n % 256 / 128 % 2
  rw [pb_h n (k := 2) ⟨64, rfl⟩, pb_h n (k := 4) ⟨32, rfl⟩, pb_h n (k := 8) ⟨16, rfl⟩, pb_h n (k := 16) ⟨8, rfl⟩, pb_h n (k := 32) ⟨4, rfl⟩, pb_h n (k := 64) ⟨2, rfl⟩, pb_h n (k := 128) ⟨1, rfl⟩, Nat.zero_add, Nat.div_one, Nat.mod_mod_of_dvd n (show 2 ∣ 256 from ⟨128, rfl⟩)]
theorem pop_8s (n j : Nat) : pop n (8 * (j + 1)) = pb8 (n % 256) + pop (n / 256) (8 * j) := by
  rw [show 8 * (j + 1) = 8 + 8 * j by omega, pop_a, pop_8, show (2 : Nat) ^ 8 = 256 from rfl]
theorem pb8_b (n : Nat) : pb8 (n % 256) ≤ 8 := (byte_c (Nat.mod_lt _ (by decide))).2.2.2
/-- the trick -/
def bct (n : Nat) : Nat :=
  let s3 := t3 8 (t2 8 (t1 8 n))
  let s4 := s3 + s3 / 256
  let s5 := s4 + s4 / 65536
  let s6 := s5 + s5 / 4294967296
  s6 % 128
theorem dvr {k r q : Nat} (h : r < k) : (r + k * q) / k = q := by
  rw [Nat.add_mul_div_left _ _ (by omega), Nat.div_eq_of_lt h, Nat.zero_add]
theorem sum8 {a b c d e f g h : Nat} (ha : a ≤ 8) (hb : b ≤ 8) (hc : c ≤ 8) (hd : d ≤ 8) (he : e ≤ 8) (hf : f ≤ 8) (hg : g ≤ 8) (hh : h ≤ 8) {s3 s4 s5 s6 : Nat} (e3 : s3 = a + 256 * (b + 256 * (c + 256 * (d + 256 * (e + 256 * (f + 256 * (g + 256 * (h + 256 * 0)))))))) (e4 : s4 = s3 + s3 / 256) (e5 : s5 = s4 + s4 / 65536) (e6 : s6 = s5 + s5 / 4294967296) : s6 % 128 = a + b + c + d + e + f + g + h := by
  have d4 : s3 / 256 = b + 256 * (c + 256 * (d + 256 * (e + 256 * (f + 256 * (g + 256 * (h + 256 * 0)))))) := by rw [e3]; exact dvr (by clear e3 e4 e5 e6; omega)
  have f4 : s4 = ((a + b) + 256 * (b + c)) + 65536 * ((c + d) + 256 * (d + e) + 65536 * (e + f) + 16777216 * (f + g) + 4294967296 * (g + h) + 1099511627776 * h) := by rw [e4, d4, e3]; clear e3 e4 e5 e6 d4; omega
  have d5 : s4 / 65536 = (c + d) + 256 * (d + e) + 65536 * (e + f) + 16777216 * (f + g) + 4294967296 * (g + h) + 1099511627776 * h := by rw [f4]; exact dvr (by clear e3 e4 e5 e6 d4 f4; omega)
  have f5 : s5 = ((a + b + c + d) + 256 * (b + c + d + e) + 65536 * (c + d + e + f) + 16777216 * (d + e + f + g)) + 4294967296 * ((e + f + g + h) + 256 * (f + g + h) + 65536 * (g + h) + 16777216 * h) := by rw [e5, d5, f4]; clear e3 e4 e5 e6 d4 f4 d5; omega
  have d6 : s5 / 4294967296 = (e + f + g + h) + 256 * (f + g + h) + 65536 * (g + h) + 16777216 * h := by rw [f5]; exact dvr (by clear e3 e4 e5 e6 d4 f4 d5 f5; omega)
  have f6 : s6 = (a + b + c + d + e + f + g + h) + 128 * (2 * ((b + c + d + e) + (f + g + h)) + 512 * ((c + d + e + f) + (g + h)) + 131072 * ((d + e + f + g) + h) + 33554432 * ((e + f + g + h) + 256 * (f + g + h) + 65536 * (g + h) + 16777216 * h)) := by rw [e6, d6, f5]; clear e3 e4 e5 e6 d4 f4 d5 f5 d6; omega
  rw [f6, Nat.add_mul_mod_self_left, Nat.mod_eq_of_lt (by clear e3 e4 e5 e6 d4 f4 d5 f5 d6 f6; omega)]
theorem pkb_s (j n : Nat) : pkb (j + 1) n = pb8 (n % 256) + 256 * pkb j (n / 256) := rfl
theorem pkb_0 (n : Nat) : pkb 0 n = 0 := rfl
theorem pop_0 (n : Nat) : pop n (8 * 0) = 0 := rfl
theorem bct_u {n s3 : Nat} (h : t3 8 (t2 8 (t1 8 n)) = s3) : bct n = (s3 + s3 / 256 + (s3 + s3 / 256) / 65536 + (s3 + s3 / 256 + (s3 + s3 / 256) / 65536) / 4294967296) % 128 := by
  subst h
  rfl
theorem pop_64 (n : Nat) : pop n (8 * (7 + 1)) = pb8 (n % 256) + (pb8 (n / 256 % 256) + (pb8 (n / 256 / 256 % 256) + (pb8 (n / 256 / 256 / 256 % 256) + (pb8 (n / 256 / 256 / 256 / 256 % 256) + (pb8 (n / 256 / 256 / 256 / 256 / 256 % 256) + (pb8 (n / 256 / 256 / 256 / 256 / 256 / 256 % 256) + (pb8 (n / 256 / 256 / 256 / 256 / 256 / 256 / 256 % 256) + 0))))))) := by
  rw [pop_8s n 7, pop_8s _ 6, pop_8s _ 5, pop_8s _ 4, pop_8s _ 3, pop_8s _ 2, pop_8s _ 1, pop_8s _ 0, pop_0]
theorem pkb_8 (n : Nat) : pkb 8 n = pb8 (n % 256) + 256 * (pb8 (n / 256 % 256) + 256 * (pb8 (n / 256 / 256 % 256) + 256 * (pb8 (n / 256 / 256 / 256 % 256) + 256 * (pb8 (n / 256 / 256 / 256 / 256 % 256) + 256 * (pb8 (n / 256 / 256 / 256 / 256 / 256 % 256) + 256 * (pb8 (n / 256 / 256 / 256 / 256 / 256 / 256 % 256) + 256 * (pb8 (n / 256 / 256 / 256 / 256 / 256 / 256 / 256 % 256) + 256 * 0))))))) := by
  rw [pkb_s 7, pkb_s 6, pkb_s 5, pkb_s 4, pkb_s 3, pkb_s 2, pkb_s 1, pkb_s 0, pkb_0]
theorem bct_e {n : Nat} (h : n < 2 ^ 64) : bct n = pop n 64 := by
  have h' : n < 256 ^ 8 := by rw [show (256 : Nat) ^ 8 = 2 ^ 64 by decide]; exact h
  rw [bct_u (pkb_e 8 n h'), show (64 : Nat) = 8 * (7 + 1) by decide, pop_64]
  have q := pkb_8 n
  have b0 := pb8_b n
  have b1 := pb8_b (n / 256)
  have b2 := pb8_b (n / 256 / 256)
  have b3 := pb8_b (n / 256 / 256 / 256)
  have b4 := pb8_b (n / 256 / 256 / 256 / 256)
  have b5 := pb8_b (n / 256 / 256 / 256 / 256 / 256)
  have b6 := pb8_b (n / 256 / 256 / 256 / 256 / 256 / 256)
  have b7 := pb8_b (n / 256 / 256 / 256 / 256 / 256 / 256 / 256)
  revert q b0 b1 b2 b3 b4 b5 b6 b7
  generalize pkb 8 n = s3
  generalize pb8 (n % 256) = a
  generalize pb8 (n / 256 % 256) = b
  generalize pb8 (n / 256 / 256 % 256) = c
  generalize pb8 (n / 256 / 256 / 256 % 256) = d
  generalize pb8 (n / 256 / 256 / 256 / 256 % 256) = e
  generalize pb8 (n / 256 / 256 / 256 / 256 / 256 % 256) = f
  generalize pb8 (n / 256 / 256 / 256 / 256 / 256 / 256 % 256) = g
  generalize pb8 (n / 256 / 256 / 256 / 256 / 256 / 256 / 256 % 256) = i
  intro q b0 b1 b2 b3 b4 b5 b6 b7
  have r := sum8 b0 b1 b2 b3 b4 b5 b6 b7 q (s4 := s3 + s3 / 256) rfl (s5 := s3 + s3 / 256 + (s3 + s3 / 256) / 65536) rfl (s6 := s3 + s3 / 256 + (s3 + s3 / 256) / 65536 + (s3 + s3 / 256 + (s3 + s3 / 256) / 65536) / 4294967296) rfl
  rw [r]
  clear q r
  omega
end Bits
