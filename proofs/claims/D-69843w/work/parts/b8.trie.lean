/-! ===== LAYER 2: beginnings of words, their classes (plain) ===== -/
section TrieP
theorem fwd_no {E : Int → Prop} : ∀ (n : Nat) (k : Int), 0 ≤ k → fwd E n k = -1 → ∀ j, k ≤ j → j < k + n → ¬ E j
  | 0, k => fun _ _ j j0 j1 => by omega
  | n + 1, k => fun k0 h j j0 j1 => by
    by_cases q : E k
    · rw [fwd_t q] at h; omega
    · rw [fwd_f q] at h
      by_cases e : j = k
      · rw [e]; exact q
      · exact fwd_no n (k + 1) (by omega) h j (by omega) (by omega)
/-- a tree of n nodes -/
def Tri (n : Int) (par sg : Int → Int) : Prop := 1 ≤ n ∧ (∀ k, 1 ≤ k → k < n → (0 ≤ par k ∧ par k < k) ∧ 33 ≤ sg k ∧ sg k ≤ 126) ∧ ∀ j k, 1 ≤ j → j < k → k < n → par j = par k → sg j ≠ sg k
noncomputable def chd (n : Int) (par sg : Int → Int) (a s : Int) : Int := fwd (fun k => par k = a ∧ sg k = s) (n - 1).toNat 1
theorem chd_b {n : Int} {par sg : Int → Int} (a s : Int) : chd n par sg a s = -1 ∨ ((1 ≤ chd n par sg a s ∧ chd n par sg a s < n) ∧ par (chd n par sg a s) = a ∧ sg (chd n par sg a s) = s) := by
  unfold chd
  rcases fwd_b (E := fun k => par k = a ∧ sg k = s) (n - 1).toNat 1 with h | h
  · exact .inl h
  · exact .inr ⟨⟨by omega, by omega⟩, h.2.2⟩
theorem chd_n {n : Int} {par sg : Int → Int} {a s : Int} (h : chd n par sg a s = -1) {x : Int} (h1 : 1 ≤ x) (h2 : x < n) (h3 : par x = a) : sg x ≠ s := fun h4 => fwd_no (n - 1).toNat 1 (by omega) h x h1 (by omega) ⟨h3, h4⟩
theorem chd_u {n : Int} {par sg : Int → Int} (T : Tri n par sg) {a s x : Int} (h1 : 1 ≤ x) (h2 : x < n) (h3 : par x = a) (h4 : sg x = s) : chd n par sg a s = x := by
  rcases chd_b (n := n) (par := par) (sg := sg) a s with h | h
  · exact absurd h4 (chd_n h h1 h2 h3)
  · obtain ⟨g1, g2, g3⟩ := h
    by_cases e : chd n par sg a s = x
    · exact e
    · by_cases l : chd n par sg a s < x
      · exact absurd (g3.trans h4.symm) (T.2.2 _ x g1.1 l h2 (g2.trans h3.symm))
      · exact absurd (h4.trans g3.symm) (T.2.2 x _ h1 (by omega) g1.2 (h3.trans g2.symm))
/-- the class of the child with the sign s -/
noncomputable def sig (n : Int) (par sg C : Int → Int) (a s : Int) : Int := rh_if (chd n par sg a s = -1) (-1) (C (chd n par sg a s))
def Alk (n : Int) (par sg en C : Int → Int) (a b : Int) : Prop := en a = en b ∧ ∀ s, sig n par sg C a s = sig n par sg C b s
theorem Alk.rf {n : Int} {par sg en C : Int → Int} (a : Int) : Alk n par sg en C a a := ⟨rfl, fun _ => rfl⟩
theorem Alk.sy {n : Int} {par sg en C : Int → Int} {a b : Int} (h : Alk n par sg en C a b) : Alk n par sg en C b a := ⟨h.1.symm, fun s => (h.2 s).symm⟩
theorem Alk.tr {n : Int} {par sg en C : Int → Int} {a b c : Int} (h : Alk n par sg en C a b) (g : Alk n par sg en C b c) : Alk n par sg en C a c := ⟨h.1.trans g.1, fun s => (h.2 s).trans (g.2 s)⟩
theorem sig_cg {n : Int} {par sg C C' : Int → Int} {a : Int} (h : ∀ x, 1 ≤ x → x < n → par x = a → C x = C' x) (s : Int) : sig n par sg C a s = sig n par sg C' a s := by
  unfold sig
  rcases chd_b (n := n) (par := par) (sg := sg) a s with g | g
  · rw [rh_if_t g, rh_if_t g]
  · rw [rh_if_f (by omega), rh_if_f (by omega)]; exact h _ g.1.1 g.1.2 g.2.1
theorem Alk.cg {n : Int} {par sg en C C' : Int → Int} {a b : Int} (h : ∀ x, 1 ≤ x → x < n → (par x = a ∨ par x = b) → C x = C' x) : Alk n par sg en C a b ↔ Alk n par sg en C' a b := by
  have h1 : ∀ s, sig n par sg C a s = sig n par sg C' a s := sig_cg (fun x x0 x1 hx => h x x0 x1 (.inl hx))
  have h2 : ∀ s, sig n par sg C b s = sig n par sg C' b s := sig_cg (fun x x0 x1 hx => h x x0 x1 (.inr hx))
  constructor
  · exact fun g => ⟨g.1, fun s => by rw [← h1, ← h2]; exact g.2 s⟩
  · exact fun g => ⟨g.1, fun s => by rw [h1, h2]; exact g.2 s⟩
theorem sig_x {n : Int} {par sg C : Int → Int} (T : Tri n par sg) {x : Int} (h1 : 1 ≤ x) (h2 : x < n) : sig n par sg C (par x) (sg x) = C x := by
  unfold sig
  rw [chd_u T h1 h2 rfl rfl, rh_if_f (by omega)]
/-- two numberings of the classes say the same -/
theorem cls_u {n : Int} {par sg en C C' : Int → Int} (T : Tri n par sg) (p : ∀ x, 0 ≤ x → x < n → 0 ≤ C x) (p' : ∀ x, 0 ≤ x → x < n → 0 ≤ C' x) (h : ∀ x y, 0 ≤ x → x < n → 0 ≤ y → y < n → (C x = C y ↔ Alk n par sg en C x y)) (h' : ∀ x y, 0 ≤ x → x < n → 0 ≤ y → y < n → (C' x = C' y ↔ Alk n par sg en C' x y)) : ∀ x y, 0 ≤ x → x < n → 0 ≤ y → y < n → (C x = C y ↔ C' x = C' y) := by
  have key : ∀ (v : Nat) (x y : Int), (2 * n - x - y).toNat = v → 0 ≤ x → x < n → 0 ≤ y → y < n → (C x = C y ↔ C' x = C' y) := by
    intro v
    induction v using Nat.strongRecOn with
    | ind v ih =>
      intro x y hv x0 x1 y0 y1
      rw [h x y x0 x1 y0 y1, h' x y x0 x1 y0 y1]
      have E : ∀ s, (sig n par sg C x s = sig n par sg C y s ↔ sig n par sg C' x s = sig n par sg C' y s) := by
        intro s
        unfold sig
        rcases chd_b (n := n) (par := par) (sg := sg) x s with g | g <;> rcases chd_b (n := n) (par := par) (sg := sg) y s with k | k
        · rw [rh_if_t g, rh_if_t g, rh_if_t k, rh_if_t k]
        · rw [rh_if_t g, rh_if_t g, rh_if_f (show ¬ chd n par sg y s = -1 by omega), rh_if_f (show ¬ chd n par sg y s = -1 by omega)]
          have := p _ (show 0 ≤ chd n par sg y s by omega) k.1.2
          have := p' _ (show 0 ≤ chd n par sg y s by omega) k.1.2
          constructor <;> intro z <;> omega
        · rw [rh_if_t k, rh_if_t k, rh_if_f (show ¬ chd n par sg x s = -1 by omega), rh_if_f (show ¬ chd n par sg x s = -1 by omega)]
          have := p _ (show 0 ≤ chd n par sg x s by omega) g.1.2
          have := p' _ (show 0 ≤ chd n par sg x s by omega) g.1.2
          constructor <;> intro z <;> omega
        · rw [rh_if_f (show ¬ chd n par sg x s = -1 by omega), rh_if_f (show ¬ chd n par sg x s = -1 by omega), rh_if_f (show ¬ chd n par sg y s = -1 by omega), rh_if_f (show ¬ chd n par sg y s = -1 by omega)]
          have a1 := T.2.1 _ g.1.1 g.1.2
          have a2 := T.2.1 _ k.1.1 k.1.2
          exact ih _ (by omega) _ _ rfl (by omega) g.1.2 (by omega) k.1.2
      exact ⟨fun z => ⟨z.1, fun s => (E s).mp (z.2 s)⟩, fun z => ⟨z.1, fun s => (E s).mpr (z.2 s)⟩⟩
  exact fun x y x0 x1 y0 y1 => key _ x y rfl x0 x1 y0 y1
/-- sums over some -/
noncomputable def psm (Q : Int → Prop) (f : Int → Int) : Nat → Int
  | 0 => 0
  | k + 1 => psm Q f k + rh_if (Q k) (f k) 0
theorem psm_cg {Q Q' : Int → Prop} {f f' : Int → Int} : ∀ k : Nat, (∀ j : Int, 0 ≤ j → j < k → (Q j ↔ Q' j) ∧ f j = f' j) → psm Q f k = psm Q' f' k
  | 0 => fun _ => rfl
  | k + 1 => fun h => by
    simp only [psm]
    rw [psm_cg k (fun j j0 j1 => h j j0 (by omega))]
    obtain ⟨h1, h2⟩ := h k (by omega) (by omega)
    by_cases q : Q k
    · rw [rh_if_t q, rh_if_t (h1.mp q), h2]
    · rw [rh_if_f q, rh_if_f (fun z => q (h1.mpr z))]
theorem psm_i {Q Q' : Int → Prop} {f : Int → Int} {w : Int} : ∀ k : Nat, 0 ≤ w → w < k → ¬ Q w → (∀ v : Int, 0 ≤ v → v < k → (Q' v ↔ (Q v ∨ v = w))) → psm Q' f k = psm Q f k + f w
  | 0 => fun w0 w1 _ _ => by omega
  | k + 1 => fun w0 w1 hQ hh => by
    simp only [psm]
    by_cases z : w = k
    · have e : psm Q' f k = psm Q f k := psm_cg k (fun j j0 j1 => ⟨⟨fun y => ((hh j j0 (by omega)).mp y).resolve_right (by omega), fun y => (hh j j0 (by omega)).mpr (.inl y)⟩, rfl⟩)
      rw [e, rh_if_t ((hh k (by omega) (by omega)).mpr (.inr z.symm)), rh_if_f (by rw [← z]; exact hQ), z]
      omega
    · have e := psm_i (Q := Q) (Q' := Q') (f := f) k w0 (by omega) hQ (fun v v0 v1 => hh v v0 (by omega))
      rw [e]
      by_cases y : Q k
      · rw [rh_if_t y, rh_if_t ((hh k (by omega) (by omega)).mpr (.inl y))]; omega
      · rw [rh_if_f y, rh_if_f (fun u => ((hh k (by omega) (by omega)).mp u).elim y (fun u => z u.symm))]; omega
theorem psm_f {Q : Int → Prop} {f f' : Int → Int} {w : Int} : ∀ k : Nat, 0 ≤ w → w < k → f' w = f w + 1 → (∀ v, v ≠ w → f' v = f v) → psm Q f' k = psm Q f k + rh_if (Q w) 1 0
  | 0 => fun w0 w1 _ _ => by omega
  | k + 1 => fun w0 w1 hw hh => by
    simp only [psm]
    by_cases z : w = k
    · have e : psm Q f' k = psm Q f k := psm_cg k (fun j j0 j1 => ⟨Iff.rfl, hh j (by omega)⟩)
      rw [e, ← z, hw]
      by_cases y : Q w
      · rw [rh_if_t y, rh_if_t y, rh_if_t y]; omega
      · rw [rh_if_f y, rh_if_f y, rh_if_f y]; omega
    · rw [psm_f (Q := Q) k w0 (by omega) hw hh, hh k (fun y => z y.symm)]
      omega
theorem psm_1 {Q : Int → Prop} : ∀ k : Nat, psm Q (fun _ => 1) k = ctp Q k
  | 0 => rfl
  | k + 1 => by
    simp only [psm]
    rw [psm_1 k]
    by_cases q : Q k
    · rw [rh_if_t q, ctp_t q]
    · rw [rh_if_f q, ctp_f q, Int.add_zero]
/-- the last of its class below n; the first of its class -/
def mxr (C : Int → Int) (n : Int) (x : Int) : Prop := ∀ y, x < y → y < n → C y ≠ C x
def mnr (C : Int → Int) (x : Int) : Prop := ∀ y, 0 ≤ y → y < x → C y ≠ C x
theorem rep_sum {C f : Int → Int} {N : Int} (hf : ∀ x y, 0 ≤ x → x < N → 0 ≤ y → y < N → C x = C y → f x = f y) : ∀ n : Nat, (n : Int) ≤ N → psm (mxr C n) f n = psm (mnr C) f n
  | 0 => fun _ => rfl
  | n + 1 => fun hn => by
    have ih := rep_sum hf n (by omega)
    simp only [psm]
    have t : mxr C ((n + 1 : Nat) : Int) n := fun y y0 y1 => by omega
    rw [rh_if_t t]
    by_cases q : ∃ j : Int, 0 ≤ j ∧ j < n ∧ C j = C n
    · -- the last of them
      have ex : ∃ g : Int, 0 ≤ g ∧ g < n ∧ C ((n : Int) - 1 - g) = C n := by
        obtain ⟨j, j0, j1, j2⟩ := q
        exact ⟨(n : Int) - 1 - j, (by omega), (by omega), by rw [show (n : Int) - 1 - ((n : Int) - 1 - j) = j by omega]; exact j2⟩
      obtain ⟨g, g0, g1, g2, g3⟩ := lst1 n ex
      have last : ∀ y, (n : Int) - 1 - g < y → y < n → C y ≠ C n := fun y y0 y1 => by
        have := g3 ((n : Int) - 1 - y) (by omega) (by omega)
        rw [show (n : Int) - 1 - ((n : Int) - 1 - y) = y by omega] at this
        exact this
      obtain ⟨j, hj⟩ : ∃ j, j = (n : Int) - 1 - g := ⟨_, rfl⟩
      rw [← hj] at g2 last
      have e := psm_i (Q := mxr C ((n + 1 : Nat) : Int)) (Q' := mxr C n) (f := f) (w := j) n (by omega) (by omega) (fun z => z n (by omega) (by omega) g2.symm) (fun v v0 v1 => by
        constructor
        · intro z
          by_cases y : v = j
          · exact .inr y
          · refine .inl (fun u u0 u1 => ?_)
            by_cases e : u = n
            · rw [e]
              intro c
              by_cases l : v < j
              · exact z j l (by omega) (g2.trans c)
              · exact last v (by omega) v1 c.symm
            · exact z u u0 (by omega)
        · intro z u u0 u1
          rcases z with z | z
          · exact z u u0 (by omega)
          · rw [z, g2]; exact last u (by omega) u1)
      have ef := hf j n (by omega) (by omega) (by omega) (by omega) g2
      rw [rh_if_f (fun z => z j (by omega) (by omega) g2)]
      omega
    · have e : psm (mxr C ((n + 1 : Nat) : Int)) f n = psm (mxr C n) f n := psm_cg n (fun v v0 v1 => ⟨⟨fun z u u0 u1 => z u u0 (by omega), fun z u u0 u1 => by
        by_cases e : u = n
        · rw [e]; intro c; exact q ⟨v, v0, v1, c.symm⟩
        · exact z u u0 (by omega)⟩, rfl⟩)
      rw [e, ih, rh_if_t (show mnr C n from fun y y0 y1 c => q ⟨y, y0, y1, c⟩)]
/-- sums from the end -/
noncomputable def sfx (Q : Int → Prop) (f : Int → Int) (n : Int) : Nat → Int
  | 0 => 0
  | m + 1 => sfx Q f n m + rh_if (Q (n - 1 - m)) (f (n - 1 - m)) 0
theorem sfx_p {Q : Int → Prop} {f : Int → Int} : ∀ (m k : Nat), sfx Q f ((k + m : Nat) : Int) m + psm Q f k = psm Q f (k + m)
  | 0, k => by simp only [sfx]; rw [Int.zero_add, Nat.add_zero]
  | m + 1, k => by
    have ih := sfx_p (Q := Q) (f := f) m (k + 1)
    rw [show k + 1 + m = k + (m + 1) by omega] at ih
    have e : psm Q f (k + 1) = psm Q f k + rh_if (Q k) (f k) 0 := rfl
    simp only [sfx]
    rw [show ((k + (m + 1) : Nat) : Int) - 1 - m = k by omega]
    omega
theorem sfx_cg {Q Q' : Int → Prop} {f : Int → Int} {n : Int} : ∀ m : Nat, (∀ x, n - m ≤ x → x < n → (Q x ↔ Q' x)) → sfx Q f n m = sfx Q' f n m
  | 0 => fun _ => rfl
  | m + 1 => fun h => by
    simp only [sfx]
    rw [sfx_cg m (fun x x0 x1 => h x (by omega) x1)]
    by_cases q : Q (n - 1 - m)
    · rw [rh_if_t q, rh_if_t ((h _ (by omega) (by omega)).mp q)]
    · rw [rh_if_f q, rh_if_f (fun z => q ((h _ (by omega) (by omega)).mpr z))]
/-- how many children -/
noncomputable def nch (n : Nat) (par : Int → Int) (a : Int) : Int := ctp (fun k => 1 ≤ k ∧ par k = a) n
theorem arc_x {par : Int → Int} {Q : Int → Prop} {n : Nat} : ∀ K : Nat, (∀ k : Int, 1 ≤ k → k < K → 0 ≤ par k ∧ par k < n) → ctp (fun k => 1 ≤ k ∧ Q (par k)) K = psm Q (nch K par) n
  | 0 => fun _ => by
    have : ∀ n : Nat, psm Q (nch 0 par) n = 0 := fun n => by
      induction n with
      | zero => rfl
      | succ n ih =>
        simp only [psm]
        rw [ih]
        by_cases q : Q n
        · rw [rh_if_t q]; rfl
        · rw [rh_if_f q]; rfl
    rw [this]; rfl
  | K + 1 => fun h => by
    have ih := arc_x (Q := Q) K (fun k k0 k1 => h k k0 (by omega))
    by_cases q : 1 ≤ K
    · have hp := h K (by omega) (by omega)
      have e := psm_f (Q := Q) (f := nch K par) (f' := nch (K + 1) par) (w := par K) n hp.1 hp.2 (by unfold nch; exact ctp_t (P := fun k => 1 ≤ k ∧ par k = par K) ⟨(by omega), rfl⟩) (fun v hv => by unfold nch; exact ctp_f (P := fun k => 1 ≤ k ∧ par k = v) (fun z => hv z.2.symm))
      rw [e, ← ih]
      by_cases y : Q (par K)
      · rw [rh_if_t y, ctp_t (P := fun k => 1 ≤ k ∧ Q (par k)) ⟨(by omega), y⟩]
      · rw [rh_if_f y, ctp_f (P := fun k => 1 ≤ k ∧ Q (par k)) (fun z => y z.2), Int.add_zero]
    · have e : psm Q (nch (K + 1) par) n = psm Q (nch K par) n := psm_cg n (fun v _ _ => ⟨Iff.rfl, by unfold nch; exact ctp_f (P := fun k => 1 ≤ k ∧ par k = v) (fun z => by have := z.1; omega)⟩)
      rw [e, ← ih]
      exact ctp_f (P := fun k => 1 ≤ k ∧ Q (par k)) (fun z => by have := z.1; omega)
theorem nch_s {n : Int} {par sg : Int → Int} (T : Tri n par sg) {a : Int} : ∀ K : Nat, (K : Int) ≤ n → nch K par a = ctp (fun s => ∃ x : Int, 1 ≤ x ∧ x < K ∧ par x = a ∧ sg x = s) 127
  | 0 => fun _ => by
    have : ctp (fun s => ∃ x : Int, 1 ≤ x ∧ x < ((0 : Nat) : Int) ∧ par x = a ∧ sg x = s) 127 = ctp (fun _ => False) 127 := ctp_cg 127 (fun s _ _ => ⟨fun ⟨x, x0, x1, _⟩ => by omega, fun z => z.elim⟩)
    rw [this, ctp_z]; rfl
  | K + 1 => fun hK => by
    have ih := nch_s T (a := a) K (by omega)
    by_cases q : 1 ≤ K ∧ par K = a
    · have hs := (T.2.1 K (by omega) (by omega)).2
      rw [ctp_i (P := fun s => ∃ x : Int, 1 ≤ x ∧ x < K ∧ par x = a ∧ sg x = s) (w := sg K) 127 (by omega) (by omega) (fun ⟨x, x0, x1, x2, x3⟩ => T.2.2 x K x0 x1 (by omega) (x2.trans q.2.symm) x3) (fun s => ⟨fun ⟨x, x0, x1, x2, x3⟩ => by
        by_cases e : x = K
        · rw [e] at x3; exact .inr x3.symm
        · exact .inl ⟨x, x0, (by omega), x2, x3⟩, fun z => by
        rcases z with ⟨x, x0, x1, x2, x3⟩ | z
        · exact ⟨x, x0, (by omega), x2, x3⟩
        · exact ⟨K, (by omega), (by omega), q.2, z.symm⟩⟩), ← ih]
      unfold nch
      exact ctp_t (P := fun k => 1 ≤ k ∧ par k = a) ⟨(by omega), q.2⟩
    · have e : ctp (fun s => ∃ x : Int, 1 ≤ x ∧ x < ((K + 1 : Nat) : Int) ∧ par x = a ∧ sg x = s) 127 = ctp (fun s => ∃ x : Int, 1 ≤ x ∧ x < K ∧ par x = a ∧ sg x = s) 127 := ctp_cg 127 (fun s _ _ => ⟨fun ⟨x, x0, x1, x2, x3⟩ => by
        by_cases e : x = K
        · exact absurd ⟨(by omega), by rw [← e]; exact x2⟩ q
        · exact ⟨x, x0, (by omega), x2, x3⟩, fun ⟨x, x0, x1, x2, x3⟩ => ⟨x, x0, (by omega), x2, x3⟩⟩)
      rw [e, ← ih]
      unfold nch
      exact ctp_f (P := fun k => 1 ≤ k ∧ par k = a) (fun z => q ⟨by have := z.1; omega, z.2⟩)
/-- alike from one side, and as many -/
theorem alk_of {n : Nat} {par sg en C : Int → Int} (T : Tri n par sg) {a b : Int} (he : en a = en b) (h : ∀ x : Int, 1 ≤ x → x < n → par x = a → chd n par sg b (sg x) ≠ -1 ∧ C (chd n par sg b (sg x)) = C x) (hc : nch n par a = nch n par b) : Alk n par sg en C a b := by
  refine ⟨he, fun s => ?_⟩
  rcases chd_b (n := n) (par := par) (sg := sg) a s with g | g
  · rcases chd_b (n := n) (par := par) (sg := sg) b s with k | k
    · unfold sig; rw [rh_if_t g, rh_if_t k]
    · exfalso
      have ks := (T.2.1 _ k.1.1 k.1.2).2
      rw [nch_s T n (Int.le_refl _), nch_s T n (Int.le_refl _)] at hc
      have := ctp_lt (P := fun s => ∃ x : Int, 1 ≤ x ∧ x < n ∧ par x = a ∧ sg x = s) (Q := fun s => ∃ x : Int, 1 ≤ x ∧ x < n ∧ par x = b ∧ sg x = s) 127 (fun t _ _ ⟨x, x0, x1, x2, x3⟩ => by
        have y := h x x0 x1 x2
        rcases chd_b (n := n) (par := par) (sg := sg) b (sg x) with u | u
        · exact absurd u y.1
        · exact ⟨_, u.1.1, u.1.2, u.2.1, u.2.2.trans x3⟩) ⟨s, (by omega), (by omega), ⟨_, k.1.1, k.1.2, k.2.1, k.2.2⟩, fun ⟨x, x0, x1, x2, x3⟩ => chd_n g x0 x1 x2 x3⟩
      omega
  · have y := h _ g.1.1 g.1.2 g.2.1
    rw [g.2.2] at y
    unfold sig
    rw [rh_if_f (by omega), rh_if_f y.1]
    exact y.2.symm
theorem alk_nch {n : Nat} {par sg en C : Int → Int} (T : Tri n par sg) (p : ∀ x : Int, 1 ≤ x → x < n → 0 ≤ C x) {a b : Int} (h : Alk n par sg en C a b) : nch n par a = nch n par b := by
  rw [nch_s T n (Int.le_refl _), nch_s T n (Int.le_refl _)]
  have key : ∀ a b s, sig n par sg C a s = sig n par sg C b s → (∃ x : Int, 1 ≤ x ∧ x < n ∧ par x = a ∧ sg x = s) → ∃ x : Int, 1 ≤ x ∧ x < n ∧ par x = b ∧ sg x = s := fun a b s e ⟨x, x0, x1, x2, x3⟩ => by
    rcases chd_b (n := n) (par := par) (sg := sg) b s with u | u
    · have c := chd_u T x0 x1 x2 x3
      unfold sig at e
      rw [rh_if_t u, c, rh_if_f (by omega)] at e
      have := p x x0 x1
      omega
    · exact ⟨_, u.1.1, u.1.2, u.2.1, u.2.2⟩
  exact ctp_cg 127 (fun s _ _ => ⟨key a b s (h.2 s), key b a s (h.2 s).symm⟩)
end TrieP
