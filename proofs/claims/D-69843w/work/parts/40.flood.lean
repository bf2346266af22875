/-! ===== sets of pixels that hang together (no program in sight) ===== -/
section Flood
def upz (f : Int → Int) (i v : Int) : Int → Int := fun j => if j = i then v else f j
theorem upz_s {f : Int → Int} {i v : Int} : upz f i v i = v := by simp [upz]
theorem upz_n {f : Int → Int} {i v j : Int} (h : j ≠ i) : upz f i v j = f j := by simp [upz, h]
theorem rh_set_f {M : rhM} {r i v : Int} : rh_set M r i v r = upz (M r) i v := by
  funext j
  simp [rh_set, upz]
theorem rh_set_n {M : rhM} {r i v a : Int} (h : a ≠ r) : rh_set M r i v a = M a := by
  funext j
  exact rh_set_a h
/-- how many of the first t are c -/
def nct (f : Int → Int) (c : Int) : Nat → Int
  | 0 => 0
  | t + 1 => nct f c t + (if f t = c then 1 else 0)
theorem nct_b (f : Int → Int) (c : Int) : ∀ t : Nat, 0 ≤ nct f c t ∧ nct f c t ≤ t
  | 0 => by simp [nct]
  | t + 1 => by
    have := nct_b f c t
    simp only [nct]
    split <;> omega
theorem nct_two (f : Int → Int) {c d : Int} (h : c ≠ d) : ∀ t : Nat, nct f c t + nct f d t ≤ t
  | 0 => by simp [nct]
  | t + 1 => by
    have := nct_two f h t
    simp only [nct]
    by_cases h1 : f t = c
    · rw [if_pos h1, if_neg (by omega)]; omega
    · rw [if_neg h1]; split <;> omega
theorem nct_cg {f g : Int → Int} {c : Int} : ∀ t : Nat, (∀ j : Int, 0 ≤ j → j < t → (f j = c ↔ g j = c)) → nct f c t = nct g c t
  | 0, _ => rfl
  | t + 1, h => by
    have ih := nct_cg t (fun j a b => h j a (by omega))
    have h1 := h t (by omega) (by omega)
    simp only [nct, ih]
    by_cases h2 : f t = c
    · rw [if_pos h2, if_pos (h1.mp h2)]
    · rw [if_neg h2, if_neg (fun z => h2 (h1.mpr z))]
theorem nct_x {f : Int → Int} {i v c : Int} (t : Nat) (h : (t : Int) ≤ i) : nct (upz f i v) c t = nct f c t :=
  nct_cg t (fun j _ b => by rw [upz_n (by omega)])
theorem nct_up {f : Int → Int} {i c : Int} (h0 : 0 ≤ i) (hf : f i ≠ c) : ∀ t : Nat, i < t → nct (upz f i c) c t = nct f c t + 1
  | 0, h => by omega
  | t + 1, h => by
    simp only [nct]
    by_cases e : i = t
    · subst e
      rw [nct_x t (by omega), upz_s, if_pos rfl, if_neg hf]
      omega
    · rw [nct_up h0 hf t (by omega), upz_n (fun z => e z.symm)]
      omega
theorem nct_dn {f : Int → Int} {i c d : Int} (h0 : 0 ≤ i) (hf : f i = d) (hd : c ≠ d) : ∀ t : Nat, i < t → nct (upz f i c) d t = nct f d t - 1
  | 0, h => by omega
  | t + 1, h => by
    simp only [nct]
    by_cases e : i = t
    · subst e
      rw [nct_x t (by omega), upz_s, if_neg hd, if_pos hf]
      omega
    · rw [nct_dn h0 hf hd t (by omega), upz_n (fun z => e z.symm)]
      omega
theorem nct_pos {f : Int → Int} {i c : Int} (h0 : 0 ≤ i) (hf : f i = c) : ∀ t : Nat, i < t → 1 ≤ nct f c t
  | 0, h => by omega
  | t + 1, h => by
    simp only [nct]
    by_cases e : i = t
    · subst e
      rw [if_pos hf]
      have := (nct_b f c t).1
      omega
    · have := nct_pos h0 hf t (by omega)
      split <;> omega
theorem nct_0 {f : Int → Int} {c : Int} : ∀ t : Nat, (∀ j : Int, 0 ≤ j → j < t → f j ≠ c) → nct f c t = 0
  | 0, _ => rfl
  | t + 1, h => by
    simp only [nct]
    rw [nct_0 t (fun j a b => h j a (by omega)), if_neg (h t (by omega) (by omega))]
    omega
/-- neighbours (all eight where E, else four) in rows of W -/
def adj (W : Int) (E : Prop) (k j : Int) : Prop := (-1 ≤ k % W - j % W ∧ k % W - j % W ≤ 1) ∧ (-1 ≤ k / W - j / W ∧ k / W - j / W ≤ 1) ∧ (E ∨ k % W = j % W ∨ k / W = j / W)
theorem adj.symm {W : Int} {E : Prop} {k j : Int} (h : adj W E k j) : adj W E j k := by
  obtain ⟨h1, h2, h3⟩ := h
  refine ⟨⟨by omega, by omega⟩, ⟨by omega, by omega⟩, ?_⟩
  rcases h3 with h | h | h
  · exact .inl h
  · exact .inr (.inl h.symm)
  · exact .inr (.inr h.symm)
def rch (W N : Int) (col : Int → Prop) (E : Prop) (s : Int) : Nat → Int → Prop
  | 0, k => k = s
  | n + 1, k => ∃ j, rch W N col E s n j ∧ adj W E j k ∧ (0 ≤ k ∧ k < N) ∧ col k
def conn (W N : Int) (col : Int → Prop) (E : Prop) (s k : Int) : Prop := ∃ n, rch W N col E s n k
variable {W N : Int} {col : Int → Prop} {E : Prop}
theorem conn.rf {s : Int} : conn W N col E s s := ⟨0, rfl⟩
theorem conn.st {s k j : Int} (h : conn W N col E s k) (ha : adj W E k j) (hj : 0 ≤ j ∧ j < N) (hc : col j) : conn W N col E s j := by
  obtain ⟨n, hn⟩ := h
  exact ⟨n + 1, k, hn, ha, hj, hc⟩
theorem conn.in {s k : Int} (h : conn W N col E s k) (hs : (0 ≤ s ∧ s < N) ∧ col s) : (0 ≤ k ∧ k < N) ∧ col k := by
  obtain ⟨n, hn⟩ := h
  cases n with
  | zero => have : k = s := hn; rw [this]; exact hs
  | succ n => obtain ⟨j, _, _, h1, h2⟩ := hn; exact ⟨h1, h2⟩
/-- a property that neighbours share goes along -/
theorem conn.ind {s k : Int} {P : Int → Prop} (h : conn W N col E s k) (hs : (0 ≤ s ∧ s < N) ∧ col s) (h0 : P s) (h1 : ∀ a b : Int, (0 ≤ a ∧ a < N) → col a → P a → adj W E a b → (0 ≤ b ∧ b < N) → col b → P b) : P k := by
  obtain ⟨n, hn⟩ := h
  have : ∀ (n : Nat) (k : Int), rch W N col E s n k → P k ∧ (0 ≤ k ∧ k < N) ∧ col k := by
    intro n
    induction n with
    | zero => intro k h; have : k = s := h; rw [this]; exact ⟨h0, hs⟩
    | succ n ih =>
      intro k h
      obtain ⟨j, h2, h3, h4, h5⟩ := h
      obtain ⟨i1, i2, i3⟩ := ih j h2
      exact ⟨h1 j k i2 i3 i1 h3 h4 h5, h4, h5⟩
  exact (this n k hn).1
/-- a flood from s with the number c over the labels lab0: labels now, those that wait -/
def Fl (W N : Int) (col : Int → Prop) (E : Prop) (lab0 : Int → Int) (c s : Int) (lab : Int → Int) (hi : Int) (st : Int → Int) : Prop :=
  (∀ k, 0 ≤ k ∧ k < N → (lab k ≠ c → lab k = lab0 k) ∧ (lab k = c → lab0 k = -1 ∧ col k ∧ conn W N col E s k)) ∧ lab s = c ∧
  (∀ i, 0 ≤ i → i < hi → (0 ≤ st i ∧ st i < N) ∧ lab (st i) = c) ∧
  ∀ k, 0 ≤ k ∧ k < N → lab k = c → (∃ i, 0 ≤ i ∧ i < hi ∧ st i = k) ∨ ∀ j, 0 ≤ j ∧ j < N → adj W E k j → col j → lab j ≠ -1
/-- the same with one pixel p at hand, some of whose neighbours (D) have been seen -/
def Fp (W N : Int) (col : Int → Prop) (E : Prop) (lab0 : Int → Int) (c s p : Int) (D : Int → Prop) (lab : Int → Int) (hi : Int) (st : Int → Int) : Prop :=
  (∀ k, 0 ≤ k ∧ k < N → (lab k ≠ c → lab k = lab0 k) ∧ (lab k = c → lab0 k = -1 ∧ col k ∧ conn W N col E s k)) ∧ lab s = c ∧
  (∀ i, 0 ≤ i → i < hi → (0 ≤ st i ∧ st i < N) ∧ lab (st i) = c) ∧
  (∀ k, 0 ≤ k ∧ k < N → lab k = c → (∃ i, 0 ≤ i ∧ i < hi ∧ st i = k) ∨ k = p ∨ ∀ j, 0 ≤ j ∧ j < N → adj W E k j → col j → lab j ≠ -1) ∧
  ((0 ≤ p ∧ p < N) ∧ lab p = c) ∧ ∀ j, D j → 0 ≤ j ∧ j < N → col j → lab j ≠ -1
variable {lab0 lab st : Int → Int} {c s p hi : Int} {D : Int → Prop}
theorem Fl.init (hs : 0 ≤ s ∧ s < N) (hc : col s) (h0 : lab0 s = -1) (hn : ∀ k, 0 ≤ k ∧ k < N → lab0 k ≠ c) (hst : st 0 = s) : Fl W N col E lab0 c s (upz lab0 s c) 1 st := by
  refine ⟨fun k hk => ?_, upz_s, fun i i0 i1 => ?_, fun k hk hl => ?_⟩
  · by_cases e : k = s
    · rw [e, upz_s]; exact ⟨fun h => absurd rfl h, fun _ => ⟨h0, hc, conn.rf⟩⟩
    · rw [upz_n e]; exact ⟨fun _ => rfl, fun h => absurd h (hn k hk)⟩
  · have : i = 0 := (by omega)
    subst this
    rw [hst]; exact ⟨hs, upz_s⟩
  · by_cases e : k = s
    · exact .inl ⟨0, (by omega), (by omega), by rw [hst, e]⟩
    · rw [upz_n e] at hl; exact absurd hl (hn k hk)
theorem Fl.pop (h : Fl W N col E lab0 c s lab hi st) (h0 : 0 < hi) : Fp W N col E lab0 c s (st (hi - 1)) (fun _ => False) lab (hi - 1) st := by
  obtain ⟨a, b, d, e⟩ := h
  refine ⟨a, b, fun i i0 i1 => d i i0 (by omega), fun k hk hl => ?_, d _ (by omega) (by omega), fun j hj => hj.elim⟩
  rcases e k hk hl with ⟨i, i0, i1, i2⟩ | h
  · by_cases q : i = hi - 1
    · subst q; exact .inr (.inl i2.symm)
    · exact .inl ⟨i, i0, (by omega), i2⟩
  · exact .inr (.inr h)
theorem Fp.push {j : Int} (h : Fp W N col E lab0 c s p D lab hi st) (hc : c ≠ -1) (h0 : 0 ≤ hi) (hj : 0 ≤ j ∧ j < N) (ha : adj W E p j) (hcol : col j) (hl : lab j = -1) : Fp W N col E lab0 c s p (fun z => D z ∨ z = j) (upz lab j c) (hi + 1) (upz st hi j) := by
  obtain ⟨a, b, d, e, ⟨f, g⟩, dd⟩ := h
  have hlc : lab j ≠ c := fun z => hc (z.symm.trans hl)
  refine ⟨fun k hk => ?_, ?_, fun i i0 i1 => ?_, fun k hk hlk => ?_, ⟨f, ?_⟩, fun z hz hzr hzc => ?_⟩
  · by_cases q : k = j
    · rw [q, upz_s]
      exact ⟨fun h => absurd rfl h, fun _ => ⟨by rw [← (a j hj).1 hlc]; exact hl, hcol, ((a p f).2 g).2.2.st ha hj hcol⟩⟩
    · rw [upz_n q]; exact a k hk
  · by_cases q : s = j
    · rw [q, upz_s]
    · rw [upz_n q]; exact b
  · by_cases q : i = hi
    · rw [q, upz_s]; exact ⟨hj, upz_s⟩
    · rw [upz_n q]
      obtain ⟨d1, d2⟩ := d i i0 (by omega)
      refine ⟨d1, ?_⟩
      by_cases q2 : st i = j
      · rw [q2, upz_s]
      · rw [upz_n q2]; exact d2
  · by_cases q : k = j
    · exact .inl ⟨hi, h0, (by omega), by rw [upz_s, q]⟩
    · rw [upz_n q] at hlk
      rcases e k hk hlk with ⟨i, i0, i1, i2⟩ | h | h
      · exact .inl ⟨i, i0, (by omega), by rw [upz_n (by omega)]; exact i2⟩
      · exact .inr (.inl h)
      · refine .inr (.inr (fun z zr za zc => ?_))
        by_cases q2 : z = j
        · rw [q2, upz_s]; exact hc
        · rw [upz_n q2]; exact h z zr za zc
  · by_cases q : p = j
    · rw [q, upz_s]
    · rw [upz_n q]; exact g
  · by_cases q2 : z = j
    · rw [q2, upz_s]; exact hc
    · rw [upz_n q2]
      rcases hz with hz | hz
      · exact dd z hz hzr hzc
      · exact absurd hz q2
theorem Fp.more {D' : Int → Prop} (h : Fp W N col E lab0 c s p D lab hi st) (hd : ∀ z, (0 ≤ z ∧ z < N) → D' z → col z → D z ∨ lab z ≠ -1) : Fp W N col E lab0 c s p D' lab hi st := by
  obtain ⟨a, b, d, e, f, dd⟩ := h
  refine ⟨a, b, d, e, f, fun z hz hzr hzc => ?_⟩
  rcases hd z hzr hz hzc with h | h
  · exact dd z h hzr hzc
  · exact h
theorem Fp.done (h : Fp W N col E lab0 c s p D lab hi st) (hcn : c ≠ -1) (hD : ∀ j, (0 ≤ j ∧ j < N) → adj W E p j → j = p ∨ D j) : Fl W N col E lab0 c s lab hi st := by
  obtain ⟨a, b, d, e, f, dd⟩ := h
  refine ⟨a, b, d, fun k hk hl => ?_⟩
  rcases e k hk hl with h | h | h
  · exact .inl h
  · subst h
    refine .inr (fun j hj ha hc => ?_)
    rcases hD j hj ha with h | h
    · rw [h, f.2]; exact hcn
    · exact dd j h hj hc
  · exact .inr h
/-- at the end: those that hang together with s, and no others -/
theorem Fl.fin (h : Fl W N col E lab0 c s lab hi st) (h0 : hi ≤ 0) (hs : 0 ≤ s ∧ s < N) (hcl : ∀ k j, (0 ≤ k ∧ k < N) → (0 ≤ j ∧ j < N) → lab0 k ≠ -1 → adj W E k j → col j → lab0 j ≠ -1) : ∀ k, 0 ≤ k ∧ k < N → (lab k = c ↔ conn W N col E s k) ∧ (lab k ≠ c → lab k = lab0 k) ∧ (lab k = c → lab0 k = -1 ∧ col k) := by
  obtain ⟨a, b, d, e⟩ := h
  intro k hk
  refine ⟨⟨fun h => ((a k hk).2 h).2.2, fun h => ?_⟩, (a k hk).1, fun h => ⟨((a k hk).2 h).1, ((a k hk).2 h).2.1⟩⟩
  refine h.ind (P := fun z => lab z = c) ⟨hs, ((a s hs).2 b).2.1⟩ b (fun z y hz _ hl ha hy hyc => ?_)
  rcases e z hz hl with ⟨i, i0, i1, _⟩ | h
  · omega
  · have h2 := h y hy ha hyc
    by_cases q : lab y = c
    · exact q
    · have h3 := (a y hy).1 q
      rw [h3] at h2
      exact absurd ((a z hz).2 hl).1 (hcl y z hy hz h2 ha.symm ((a z hz).2 hl).2.1)
/-- whether one of them is of a sort (the border's): those that wait aren't told yet -/
def Ed (N : Int) (B : Int → Prop) (lab : Int → Int) (c hi : Int) (st : Int → Int) (e : Int) : Prop := (e = 0 ∨ e = 1) ∧ (e = 1 → ∃ k, (0 ≤ k ∧ k < N) ∧ lab k = c ∧ B k) ∧ ∀ k, 0 ≤ k ∧ k < N → lab k = c → B k → e = 1 ∨ ∃ i, 0 ≤ i ∧ i < hi ∧ st i = k
variable {B : Int → Prop} {e : Int}
theorem Ed.init (hn : ∀ k, 0 ≤ k ∧ k < N → lab0 k ≠ c) (hst : st 0 = s) : Ed N B (upz lab0 s c) c 1 st 0 := by
  refine ⟨.inl rfl, fun h => absurd h (by omega), fun k hk hl _ => .inr ⟨0, (by omega), (by omega), ?_⟩⟩
  by_cases q : k = s
  · rw [hst, q]
  · rw [upz_n q] at hl; exact absurd hl (hn k hk)
theorem Ed.pop {e' : Int} (h : Ed N B lab c hi st e) (h0 : 0 < hi) (hp : (0 ≤ st (hi - 1) ∧ st (hi - 1) < N) ∧ lab (st (hi - 1)) = c) (he : e' = 0 ∨ e' = 1) (he1 : e' = 1 ↔ (e = 1 ∨ B (st (hi - 1)))) : Ed N B lab c (hi - 1) st e' := by
  obtain ⟨a, b, d⟩ := h
  refine ⟨he, fun z => ?_, fun k hk hl hb => ?_⟩
  · rcases he1.mp z with y | y
    · exact b y
    · exact ⟨_, hp.1, hp.2, y⟩
  · rcases d k hk hl hb with z | ⟨i, i0, i1, i2⟩
    · exact .inl (he1.mpr (.inl z))
    · by_cases q : i = hi - 1
      · subst q; rw [← i2] at hb; exact .inl (he1.mpr (.inr hb))
      · exact .inr ⟨i, i0, (by omega), i2⟩
theorem Ed.push {j : Int} (h : Ed N B lab c hi st e) (h0 : 0 ≤ hi) : Ed N B (upz lab j c) c (hi + 1) (upz st hi j) e := by
  obtain ⟨a, b, d⟩ := h
  refine ⟨a, fun z => ?_, fun k hk hl hb => ?_⟩
  · obtain ⟨k, k0, k1, k2⟩ := b z
    refine ⟨k, k0, ?_, k2⟩
    by_cases q : k = j
    · rw [q, upz_s]
    · rw [upz_n q]; exact k1
  · by_cases q : k = j
    · exact .inr ⟨hi, h0, (by omega), by rw [upz_s, q]⟩
    · rw [upz_n q] at hl
      rcases d k hk hl hb with z | ⟨i, i0, i1, i2⟩
      · exact .inl z
      · exact .inr ⟨i, i0, (by omega), by rw [upz_n (by omega)]; exact i2⟩
theorem Ed.fin (h : Ed N B lab c hi st e) (h0 : hi ≤ 0) : (e = 0 ∨ e = 1) ∧ (e = 1 ↔ ∃ k, (0 ≤ k ∧ k < N) ∧ lab k = c ∧ B k) := by
  obtain ⟨a, b, d⟩ := h
  refine ⟨a, b, fun ⟨k, k0, k1, k2⟩ => ?_⟩
  rcases d k k0 k1 k2 with z | ⟨i, i0, i1, _⟩
  · exact z
  · omega
/-- all labels: what they are -/
def Lb (W N : Int) (col : Int → Prop) (E : Prop) (lab : Int → Int) (cnt : Int) : Prop :=
  (∀ k, 0 ≤ k ∧ k < N → (lab k = -1 ↔ ¬ col k) ∧ -1 ≤ lab k ∧ lab k < cnt) ∧
  (∀ k j, (0 ≤ k ∧ k < N) → (0 ≤ j ∧ j < N) → col k → col j → adj W E k j → lab j = lab k) ∧
  (∀ k, 0 ≤ k ∧ k < N → col k → ∃ f, 0 ≤ f ∧ f ≤ k ∧ lab f = lab k ∧ (∀ j, 0 ≤ j ∧ j < N → lab j = lab k → f ≤ j) ∧ conn W N col E f k) ∧
  (∀ k, 0 ≤ k ∧ k < N → ∀ d, 0 ≤ d → d < lab k → ∃ g, 0 ≤ g ∧ g < k ∧ lab g = d) ∧
  (∀ d, 0 ≤ d → d < cnt → ∃ g, (0 ≤ g ∧ g < N) ∧ lab g = d) ∧ 0 ≤ cnt
/-- on the way: seeds before t are done -/
def Lw (W N : Int) (col : Int → Prop) (E : Prop) (lab : Int → Int) (cnt t : Int) : Prop :=
  (∀ k, 0 ≤ k ∧ k < N → (lab k ≠ -1 → col k ∧ 0 ≤ lab k ∧ lab k < cnt) ∧ (k < t → col k → lab k ≠ -1)) ∧
  (∀ k j, (0 ≤ k ∧ k < N) → (0 ≤ j ∧ j < N) → lab k ≠ -1 → adj W E k j → col j → lab j = lab k) ∧
  (∀ k, 0 ≤ k ∧ k < N → lab k ≠ -1 → ∃ f, 0 ≤ f ∧ f ≤ k ∧ lab f = lab k ∧ (∀ j, 0 ≤ j ∧ j < N → lab j = lab k → f ≤ j) ∧ conn W N col E f k) ∧
  (∀ k, 0 ≤ k ∧ k < N → ∀ d, 0 ≤ d → d < lab k → ∃ g, 0 ≤ g ∧ g < k ∧ lab g = d) ∧
  (∀ d, 0 ≤ d → d < cnt → ∃ g, 0 ≤ g ∧ g < t ∧ lab g = d) ∧ 0 ≤ cnt
variable {cnt t : Int}
theorem Lw.zero (h : ∀ k, 0 ≤ k ∧ k < N → lab k = -1) : Lw W N col E lab 0 0 :=
  ⟨fun k hk => ⟨fun z => absurd (h k hk) z, fun z => by omega⟩, fun k j hk hj z => absurd (h k hk) z, fun k hk z => absurd (h k hk) z, fun k hk d d0 d1 => by rw [h k hk] at d1; omega, fun d d0 d1 => by omega, (by omega)⟩
theorem Lw.next (h : Lw W N col E lab cnt t) (ht : col t → lab t ≠ -1) : Lw W N col E lab cnt (t + 1) := by
  obtain ⟨a, b, c, d, e, f⟩ := h
  refine ⟨fun k hk => ⟨(a k hk).1, fun z zc => ?_⟩, b, c, d, fun x x0 x1 => ?_, f⟩
  · by_cases q : k = t
    · rw [q] at zc ⊢; exact ht zc
    · exact (a k hk).2 (by omega) zc
  · obtain ⟨g, g0, g1, g2⟩ := e x x0 x1
    exact ⟨g, g0, (by omega), g2⟩
theorem Lw.flood {lab' : Int → Int} (h : Lw W N col E lab cnt t) (ht : 0 ≤ t ∧ t < N) (htc : col t) (htl : lab t = -1) (hf : ∀ k, 0 ≤ k ∧ k < N → (lab' k = cnt ↔ conn W N col E t k) ∧ (lab' k ≠ cnt → lab' k = lab k) ∧ (lab' k = cnt → lab k = -1 ∧ col k)) : Lw W N col E lab' (cnt + 1) (t + 1) := by
  obtain ⟨a, b, c, d, e, f⟩ := h
  have old : ∀ k, 0 ≤ k ∧ k < N → lab k ≠ -1 → lab' k = lab k ∧ lab' k ≠ cnt := fun k hk z => by
    have h1 : lab' k ≠ cnt := fun y => z ((hf k hk).2.2 y).1
    exact ⟨(hf k hk).2.1 h1, h1⟩
  have neg : ∀ k, 0 ≤ k ∧ k < N → lab' k ≠ cnt → lab' k ≠ -1 → lab k ≠ -1 := fun k hk z y => by rw [← (hf k hk).2.1 z]; exact y
  have htn : lab' t = cnt := (hf t ht).1.mpr conn.rf
  have hge : ∀ k, 0 ≤ k ∧ k < N → lab' k = cnt → t ≤ k := fun k hk z => by
    have h1 := (hf k hk).2.2 z
    rcases Int.lt_or_le k t with q | q
    · exact absurd h1.1 ((a k hk).2 q h1.2)
    · exact q
  refine ⟨fun k hk => ⟨fun z => ?_, fun z zc => ?_⟩, fun k j hk hj z ha hc => ?_, fun k hk z => ?_, fun k hk x x0 x1 => ?_, fun x x0 x1 => ?_, (by omega)⟩
  · by_cases q : lab' k = cnt
    · exact ⟨((hf k hk).2.2 q).2, (by omega), (by omega)⟩
    · have h1 := (a k hk).1 (neg k hk q z)
      rw [(hf k hk).2.1 q]; exact ⟨h1.1, h1.2.1, (by omega)⟩
  · by_cases q : k = t
    · rw [q, htn]; omega
    · have h1 := (a k hk).2 (by omega) zc
      rw [(old k hk h1).1]; exact h1
  · by_cases q : lab' k = cnt
    · rw [q]
      exact (hf j hj).1.mpr (((hf k hk).1.mp q).st ha hj hc)
    · have h1 := neg k hk q z
      have h2 := b k j hk hj h1 ha hc
      have h3 : lab j ≠ -1 := by rw [h2]; exact h1
      rw [(old j hj h3).1, (old k hk h1).1, h2]
  · by_cases q : lab' k = cnt
    · exact ⟨t, ht.1, hge k hk q, by rw [htn, q], fun j hj hl => hge j hj (by rw [hl, q]), (hf k hk).1.mp q⟩
    · have h1 := neg k hk q z
      obtain ⟨g, g0, g1, g2, g3, g4⟩ := c k hk h1
      have hg : 0 ≤ g ∧ g < N := ⟨by omega, by omega⟩
      have h3 : lab g ≠ -1 := by rw [g2]; exact h1
      refine ⟨g, g0, g1, by rw [(old g hg h3).1, (old k hk h1).1, g2], fun j hj hl => ?_, g4⟩
      have h4 : lab' j ≠ cnt := by rw [hl]; exact q
      refine g3 j hj ?_
      rw [← (hf j hj).2.1 h4, hl, (old k hk h1).1]
  · by_cases q : lab' k = cnt
    · obtain ⟨g, g0, g1, g2⟩ := e x x0 (by omega)
      have hg : 0 ≤ g ∧ g < N := ⟨by omega, by omega⟩
      have := hge k hk q
      exact ⟨g, g0, (by omega), by rw [(old g hg (by omega)).1]; exact g2⟩
    · rw [(hf k hk).2.1 q] at x1
      obtain ⟨g, g0, g1, g2⟩ := d k hk x x0 x1
      have hg : 0 ≤ g ∧ g < N := ⟨by omega, by omega⟩
      exact ⟨g, g0, g1, by rw [(old g hg (by omega)).1]; exact g2⟩
  · by_cases q : x = cnt
    · exact ⟨t, ht.1, (by omega), by rw [htn, q]⟩
    · obtain ⟨g, g0, g1, g2⟩ := e x x0 (by omega)
      have hg : 0 ≤ g ∧ g < N := ⟨by omega, by omega⟩
      exact ⟨g, g0, (by omega), by rw [(old g hg (by omega)).1]; exact g2⟩
theorem Lw.fin (h : Lw W N col E lab cnt t) (ht : N ≤ t) (hn : ∀ k, 0 ≤ k ∧ k < N → -1 ≤ lab k) (ht2 : t ≤ N) : Lb W N col E lab cnt := by
  obtain ⟨a, b, c, d, e, f⟩ := h
  refine ⟨fun k hk => ⟨⟨fun z y => (a k hk).2 (by omega) y z, fun z => ?_⟩, hn k hk, ?_⟩, fun k j hk hj kc jc ha => b k j hk hj ((a k hk).2 (by omega) kc) ha jc, fun k hk kc => c k hk ((a k hk).2 (by omega) kc), d, fun x x0 x1 => ?_, f⟩
  · by_cases q : lab k = -1
    · exact q
    · exact absurd ((a k hk).1 q).1 z
  · by_cases q : lab k = -1
    · omega
    · exact ((a k hk).1 q).2.2
  · obtain ⟨g, g0, g1, g2⟩ := e x x0 x1
    exact ⟨g, ⟨by omega, by omega⟩, g2⟩
/-- there is one way to number them -/
theorem Lb.one {lab' : Int → Int} {cnt' : Int} (h : Lb W N col E lab cnt) (h' : Lb W N col E lab' cnt') : ∀ k, 0 ≤ k ∧ k < N → lab k = lab' k := by
  obtain ⟨a, b, c, d, e, f⟩ := h
  obtain ⟨a', b', c', d', e', f'⟩ := h'
  have key : ∀ (n : Nat) (k : Int), k.toNat = n → 0 ≤ k ∧ k < N → lab k = lab' k := by
    intro n
    induction n using Nat.strongRecOn with
    | ind n ih =>
      intro k hn hk
      have ih2 : ∀ j : Int, 0 ≤ j → j < k → lab j = lab' j := fun j j0 j1 => ih j.toNat (by omega) j rfl ⟨by omega, by omega⟩
      by_cases hc : col k
      · obtain ⟨g, g0, g1, g2, g3, g4⟩ := c k hk hc
        obtain ⟨g', g0', g1', g2', g3', g4'⟩ := c' k hk hc
        have hg : 0 ≤ g ∧ g < N := ⟨by omega, by omega⟩
        have hg' : 0 ≤ g' ∧ g' < N := ⟨by omega, by omega⟩
        have cg : col g := Classical.byContradiction (fun z => by have h1 := (a g hg).1.mpr z; rw [g2] at h1; exact (a k hk).1.mp h1 hc)
        have cg' : col g' := Classical.byContradiction (fun z => by have h1 := (a' g' hg').1.mpr z; rw [g2'] at h1; exact (a' k hk).1.mp h1 hc)
        have s1 : lab' k = lab' g := g4.ind (P := fun z => lab' z = lab' g) ⟨hg, cg⟩ rfl (fun x y hx cx px ha hy cy => (b' x y hx hy cx cy ha).trans px)
        have s2 : lab k = lab g' := g4'.ind (P := fun z => lab z = lab g') ⟨hg', cg'⟩ rfl (fun x y hx cx px ha hy cy => (b x y hx hy cx cy ha).trans px)
        by_cases q : g = k
        · by_cases q' : g' = k
          · -- both first
            have n1 := (a k hk).2
            have n2 : lab k ≠ -1 := fun z => (a k hk).1.mp z hc
            have n1' := (a' k hk).2
            have n2' : lab' k ≠ -1 := fun z => (a' k hk).1.mp z hc
            rcases Int.lt_trichotomy (lab k) (lab' k) with z | z | z
            · obtain ⟨y, y0, y1, y2⟩ := d' k hk (lab k) (by omega) z
              have h1 := ih2 y y0 y1
              have := g3 y ⟨by omega, by omega⟩ (by rw [h1]; exact y2)
              omega
            · exact z
            · obtain ⟨y, y0, y1, y2⟩ := d k hk (lab' k) (by omega) z
              have h1 := ih2 y y0 y1
              have := g3' y ⟨by omega, by omega⟩ (by rw [← h1]; exact y2)
              omega
          · have h1 := ih2 g' g0' (by omega)
            rw [s2, h1, g2']
        · have h1 := ih2 g g0 (by omega)
          rw [s1, ← h1, g2]
      · rw [(a k hk).1.mpr hc, (a' k hk).1.mpr hc]
  exact fun k hk => key _ k rfl hk
theorem Lb.nums {lab' : Int → Int} {cnt' : Int} (h : Lb W N col E lab cnt) (h' : Lb W N col E lab' cnt') : cnt = cnt' := by
  have h1 := h.one h'
  obtain ⟨a, b, c, d, e, f⟩ := h
  obtain ⟨a', b', c', d', e', f'⟩ := h'
  rcases Int.lt_trichotomy cnt cnt' with z | z | z
  · obtain ⟨g, g0, g1⟩ := e' cnt (by omega) z
    have := (a g g0).2
    rw [h1 g g0, g1] at this
    omega
  · exact z
  · obtain ⟨g, g0, g1⟩ := e cnt' (by omega) z
    have := (a' g g0).2
    rw [← h1 g g0, g1] at this
    omega
theorem Lb.cols {col' : Int → Prop} (h : Lb W N col E lab cnt) (hc : ∀ k, 0 ≤ k ∧ k < N → (col k ↔ col' k)) : Lb W N col' E lab cnt := by
  have hr : ∀ s : Int, ∀ (n : Nat) (k : Int), rch W N col E s n k → rch W N col' E s n k := by
    intro s n
    induction n with
    | zero => intro k h; exact h
    | succ n ih => intro k h; obtain ⟨j, h1, h2, h3, h4⟩ := h; exact ⟨j, ih j h1, h2, h3, (hc k h3).mp h4⟩
  obtain ⟨a, b, c, d, e, f⟩ := h
  refine ⟨fun k hk => ⟨(a k hk).1.trans (not_congr (hc k hk)), (a k hk).2⟩, fun k j hk hj kc jc => b k j hk hj ((hc k hk).mpr kc) ((hc j hj).mpr jc), fun k hk kc => ?_, d, e, f⟩
  obtain ⟨g, g0, g1, g2, g3, n, g4⟩ := c k hk ((hc k hk).mpr kc)
  exact ⟨g, g0, g1, g2, g3, n, hr g n k g4⟩
theorem Lb.eight {E' : Prop} (h : Lb W N col E lab cnt) (he : E ↔ E') : Lb W N col E' lab cnt := by
  rw [show E = E' from propext he] at h
  exact h
end Flood
