/-! ===== pure: counting, the best parting ===== -/
section TreeP
noncomputable def ctp (P : Int → Prop) : Nat → Int
  | 0 => 0
  | k + 1 => ctp P k + rh_if (P k) 1 0
theorem ctp_b (P : Int → Prop) : ∀ k : Nat, 0 ≤ ctp P k ∧ ctp P k ≤ k
  | 0 => by simp [ctp]
  | k + 1 => by
    have := ctp_b P k
    simp only [ctp]
    by_cases q : P k
    · rw [rh_if_t q]; omega
    · rw [rh_if_f q]; omega
theorem ctp_le {P Q : Int → Prop} : ∀ k : Nat, (∀ j : Int, 0 ≤ j → j < k → P j → Q j) → ctp P k ≤ ctp Q k
  | 0 => fun _ => by simp [ctp]
  | k + 1 => fun h => by
    have := ctp_le (P := P) (Q := Q) k (fun j a b => h j a (by omega))
    simp only [ctp]
    by_cases q : P k
    · rw [rh_if_t q, rh_if_t (h k (by omega) (by omega) q)]; omega
    · rw [rh_if_f q]
      by_cases y : Q k
      · rw [rh_if_t y]; omega
      · rw [rh_if_f y]; omega
theorem ctp_cg {P Q : Int → Prop} (k : Nat) (h : ∀ j : Int, 0 ≤ j → j < k → (P j ↔ Q j)) : ctp P k = ctp Q k := by
  have h1 := ctp_le (P := P) (Q := Q) k (fun j a b => (h j a b).mp)
  have h2 := ctp_le (P := Q) (Q := P) k (fun j a b => (h j a b).mpr)
  omega
theorem ctp_lt {P Q : Int → Prop} : ∀ k : Nat, (∀ j : Int, 0 ≤ j → j < k → P j → Q j) → (∃ j : Int, 0 ≤ j ∧ j < k ∧ Q j ∧ ¬ P j) → ctp P k + 1 ≤ ctp Q k
  | 0 => fun _ ⟨j, a, b, _⟩ => by omega
  | k + 1 => fun h ⟨j, a, b, c, d⟩ => by
    simp only [ctp]
    by_cases e : j = k
    · rw [e] at c d
      have := ctp_le (P := P) (Q := Q) k (fun j a b => h j a (by omega))
      rw [rh_if_t c, rh_if_f d]; omega
    · have := ctp_lt (P := P) (Q := Q) k (fun j a b => h j a (by omega)) ⟨j, a, (by omega), c, d⟩
      by_cases q : P k
      · rw [rh_if_t q, rh_if_t (h k (by omega) (by omega) q)]; omega
      · rw [rh_if_f q]
        by_cases y : Q k
        · rw [rh_if_t y]; omega
        · rw [rh_if_f y]; omega
theorem ctp_ex {P Q : Int → Prop} {k : Nat} (h : ctp P k < ctp Q k) : ∃ j : Int, 0 ≤ j ∧ j < k ∧ Q j ∧ ¬ P j := by
  by_cases z : ∃ j : Int, 0 ≤ j ∧ j < k ∧ Q j ∧ ¬ P j
  · exact z
  · have := ctp_le (P := Q) (Q := P) k (fun j a b c => Classical.byContradiction (fun d => z ⟨j, a, b, c, d⟩))
    omega
theorem ctp_z : ∀ k : Nat, ctp (fun _ => False) k = 0
  | 0 => rfl
  | k + 1 => by simp only [ctp]; rw [rh_if_f id, ctp_z k]; rfl
theorem ctp_pos {P : Int → Prop} {k : Nat} : 0 < ctp P k ↔ ∃ j : Int, 0 ≤ j ∧ j < k ∧ P j := by
  constructor
  · intro h
    have := ctp_ex (P := fun _ => False) (Q := P) (k := k) (by rw [ctp_z]; exact h)
    obtain ⟨j, a, b, c, -⟩ := this
    exact ⟨j, a, b, c⟩
  · rintro ⟨j, a, b, c⟩
    have := ctp_lt (P := fun _ => False) (Q := P) k (fun _ _ _ z => z.elim) ⟨j, a, b, c, id⟩
    rw [ctp_z] at this
    omega
theorem ctp_two {P : Int → Prop} : ∀ k : Nat, 1 < ctp P k → ∃ a b : Int, 0 ≤ a ∧ a < k ∧ 0 ≤ b ∧ b < k ∧ a ≠ b ∧ P a ∧ P b
  | 0 => fun h => by simp [ctp] at h
  | k + 1 => fun h => by
    simp only [ctp] at h
    by_cases q : P k
    · rw [rh_if_t q] at h
      obtain ⟨j, a, b, c⟩ := ctp_pos.mp (show 0 < ctp P k by omega)
      exact ⟨j, k, a, (by omega), (by omega), (by omega), (by omega), c, q⟩
    · rw [rh_if_f q] at h
      obtain ⟨a, b, h1, h2, h3, h4, h5⟩ := ctp_two k (show 1 < ctp P k by omega)
      exact ⟨a, b, h1, (by omega), h3, (by omega), h5⟩
theorem ctp_two' {P : Int → Prop} {k : Nat} {a b : Int} (h1 : 0 ≤ a) (h2 : a < k) (h3 : 0 ≤ b) (h4 : b < k) (h5 : a ≠ b) (h6 : P a) (h7 : P b) : 1 < ctp P k := by
  have x1 := ctp_lt (P := fun _ => False) (Q := fun x => x = a) k (fun _ _ _ z => z.elim) ⟨a, h1, h2, rfl, id⟩
  have x2 := ctp_lt (P := fun x => x = a) (Q := P) k (fun _ _ _ z => z ▸ h6) ⟨b, h3, h4, h7, fun z => h5 z.symm⟩
  rw [ctp_z] at x1
  omega
/-- squares -/
def sqs (h : Int → Int) : Nat → Int
  | 0 => 0
  | k + 1 => sqs h k + h k * h k
theorem mb2 {a b A B : Int} (h1 : 0 ≤ a) (h2 : a ≤ A) (h3 : 0 ≤ b) (h4 : b ≤ B) : 0 ≤ a * b ∧ a * b ≤ A * B := ⟨Int.mul_nonneg h1 h3, Int.mul_le_mul h2 h4 h3 (by omega)⟩
theorem sqs_b {h : Int → Int} : ∀ k : Nat, (∀ c : Int, 0 ≤ c → c < k → 0 ≤ h c ∧ h c ≤ 150) → 0 ≤ sqs h k ∧ sqs h k ≤ 22500 * k
  | 0 => fun _ => by simp [sqs]
  | k + 1 => fun g => by
    have := sqs_b (h := h) k (fun c a b => g c a (by omega))
    have g1 := g k (by omega) (by omega)
    have := mb2 g1.1 g1.2 g1.1 g1.2
    simp only [sqs]
    omega
theorem sqs_cg {h g : Int → Int} : ∀ k : Nat, (∀ c : Int, 0 ≤ c → c < k → h c = g c) → sqs h k = sqs g k
  | 0 => fun _ => rfl
  | k + 1 => fun e => by simp only [sqs]; rw [sqs_cg k (fun c a b => e c a (by omega)), e k (by omega) (by omega)]
/-- the first of the greatest -/
noncomputable def amx (h : Int → Int) : Nat → Int
  | 0 => 0
  | k + 1 => rh_if (h (amx h k) < h k) k (amx h k)
theorem amx_b {h : Int → Int} : ∀ k : Nat, 0 ≤ amx h k ∧ (amx h k = 0 ∨ amx h k < k)
  | 0 => by simp [amx]
  | k + 1 => by
    have := amx_b (h := h) k
    simp only [amx]
    by_cases q : h (amx h k) < h k
    · rw [rh_if_t q]; omega
    · rw [rh_if_f q]; omega
theorem amx_g {h : Int → Int} : ∀ k : Nat, ∀ c : Int, 0 ≤ c → c < k → h c ≤ h (amx h k)
  | 0 => fun c a b => by omega
  | k + 1 => fun c a b => by
    have ih := amx_g (h := h) k
    simp only [amx]
    by_cases q : h (amx h k) < h k
    · rw [rh_if_t q]
      by_cases e : c = k
      · rw [e]; omega
      · have := ih c a (by omega); omega
    · rw [rh_if_f q]
      by_cases e : c = k
      · rw [e]; omega
      · exact ih c a (by omega)
theorem tr_kinds {nd lt : Int → Int} {n : Int} {N : Nat} (hl : ∀ f : Int, 0 ≤ f → f < N → 33 ≤ lt f ∧ lt f ≤ 126) :
    (ctp (fun f => nd f = n ∧ lt f = amx (fun c => ctp (fun f => nd f = n ∧ lt f = c) N) 128) N < ctp (fun f => nd f = n) N) ↔ 1 < ctp (fun c => 0 < ctp (fun f => nd f = n ∧ lt f = c) N) 128 := by
  have hb := amx_b (h := fun c => ctp (fun f => nd f = n ∧ lt f = c) N) 128
  have hg := amx_g (h := fun c => ctp (fun f => nd f = n ∧ lt f = c) N) 128
  generalize amx (fun c => ctp (fun f => nd f = n ∧ lt f = c) N) 128 = m at *
  constructor
  · intro h
    obtain ⟨f, f0, f1, f2, f3⟩ := ctp_ex h
    have l := hl f f0 f1
    have h1 : 0 < ctp (fun g => nd g = n ∧ lt g = lt f) N := ctp_pos.mpr ⟨f, f0, f1, f2, rfl⟩
    have h2 := hg (lt f) (by omega) (by omega)
    exact ctp_two' (a := m) (b := lt f) (by omega) (by omega) (by omega) (by omega) (fun z => f3 ⟨f2, z.symm⟩) (Int.lt_of_lt_of_le h1 h2) h1
  · intro h
    obtain ⟨a, b, a0, a1, b0, b1, ne, ha, hb'⟩ := ctp_two _ h
    have : ∃ c, c ≠ m ∧ 0 < ctp (fun f => nd f = n ∧ lt f = c) N := by
      by_cases e : a = m
      · exact ⟨b, fun z => ne (e.trans z.symm), hb'⟩
      · exact ⟨a, e, ha⟩
    obtain ⟨c, cn, cp⟩ := this
    obtain ⟨f, f0, f1, f2, f3⟩ := ctp_pos.mp cp
    have := ctp_lt (P := fun f => nd f = n ∧ lt f = m) (Q := fun f => nd f = n) N (fun j _ _ z => z.1) ⟨f, f0, f1, f2, fun z => cn (f3.symm.trans z.2)⟩
    omega
theorem rle {a b c d e f : Int} (h1 : a * d ≤ c * b) (h2 : c * f ≤ e * d) (hd : 0 < d) (hb : 0 ≤ b) (hf : 0 ≤ f) : a * f ≤ e * b := by
  have g1 : a * d * f ≤ c * b * f := Int.mul_le_mul_of_nonneg_right h1 hf
  have g2 : c * f * b ≤ e * d * b := Int.mul_le_mul_of_nonneg_right h2 hb
  rw [Int.mul_right_comm a d f, Int.mul_right_comm c b f] at g1
  rw [Int.mul_right_comm e d b] at g2
  exact Int.le_of_mul_le_mul_right (Int.le_trans g1 g2) hd
theorem rlt {a b c d e f : Int} (h1 : a * d ≤ c * b) (h2 : c * f < e * d) (hd : 0 < d) (hb : 0 < b) (hf : 0 ≤ f) : a * f < e * b := by
  have g1 : a * d * f ≤ c * b * f := Int.mul_le_mul_of_nonneg_right h1 hf
  have g2 : c * f * b < e * d * b := Int.mul_lt_mul_of_pos_right h2 hb
  rw [Int.mul_right_comm a d f, Int.mul_right_comm c b f] at g1
  rw [Int.mul_right_comm e d b] at g2
  exact Int.lt_of_mul_lt_mul_right (Int.lt_of_le_of_lt g1 g2) (by omega)
theorem rlt2 {a b c d e f : Int} (h1 : a * d < c * b) (h2 : c * f ≤ e * d) (hd : 0 < d) (hb : 0 ≤ b) (hf : 0 < f) : a * f < e * b := by
  have g1 : a * d * f < c * b * f := Int.mul_lt_mul_of_pos_right h1 hf
  have g2 : c * f * b ≤ e * d * b := Int.mul_le_mul_of_nonneg_right h2 hb
  rw [Int.mul_right_comm a d f, Int.mul_right_comm c b f] at g1
  rw [Int.mul_right_comm e d b] at g2
  exact Int.lt_of_mul_lt_mul_right (Int.lt_of_lt_of_le g1 g2) (by omega)
/-- the best parting by one feature among the values C -/
def Spt (C : Int → Prop) (N B : Int → Int) (k t0 b0 e0 w0 t b e w : Int) : Prop := (t = t0 ∧ b = b0 ∧ e = e0 ∧ w = w0 ∧ ∀ v, C v → N v * b0 ≤ t0 * B v) ∨ (e = k ∧ C w ∧ t = N w ∧ b = B w ∧ t0 * B w < N w * b0 ∧ ∀ v, C v → N v * B w ≤ N w * B v ∧ (N v * B w = N w * B v → w ≤ v))
theorem Spt.new {C C' : Int → Prop} {N B : Int → Int} {k t0 b0 e0 w0 t b e w x : Int} (hS : Spt C N B k t0 b0 e0 w0 t b e w) (hb0 : 0 < b0) (hC : ∀ v, C v → 0 < B v) (hx : 0 < B x) (he : e0 ≠ k) (hn : t * B x < N x * b ∨ (e = k ∧ N x * b = t * B x ∧ x < w)) (hC' : ∀ v, C' v ↔ (C v ∨ v = x)) : Spt C' N B k t0 b0 e0 w0 (N x) (B x) k x := by
  rcases hS with ⟨e1, e2, e3, e4, h⟩ | ⟨e1, cw, e2, e3, hw, h⟩
  · rcases hn with q | q
    · rw [e1, e2] at q
      refine .inr ⟨rfl, (hC' x).mpr (.inr rfl), rfl, rfl, q, fun v hv => ?_⟩
      rcases (hC' v).mp hv with c | c
      · have := rlt (h v c) q hb0 (hC v c) (by omega)
        exact ⟨by omega, fun z => by omega⟩
      · rw [c]; exact ⟨Int.le_refl _, fun _ => Int.le_refl _⟩
    · exact absurd (e3.symm.trans q.1) he
  · have bw := hC w cw
    rw [e2, e3] at hn
    rcases hn with q | ⟨-, q, lt⟩
    · refine .inr ⟨rfl, (hC' x).mpr (.inr rfl), rfl, rfl, rlt (Int.le_of_lt hw) q bw hb0 (by omega), fun v hv => ?_⟩
      rcases (hC' v).mp hv with c | c
      · have := rlt (h v c).1 q bw (hC v c) (by omega)
        exact ⟨by omega, fun z => by omega⟩
      · rw [c]; exact ⟨Int.le_refl _, fun _ => Int.le_refl _⟩
    · refine .inr ⟨rfl, (hC' x).mpr (.inr rfl), rfl, rfl, rlt2 hw (by omega) bw (by omega) hx, fun v hv => ?_⟩
      rcases (hC' v).mp hv with c | c
      · have bv := hC v c
        refine ⟨rle (h v c).1 (by omega) bw (by omega) (by omega), fun z => ?_⟩
        have y1 := rle (a := N w) (b := B w) (c := N x) (d := B x) (e := N v) (f := B v) (by omega) (by omega) hx (by omega) (by omega)
        have y2 := (h v c).1
        have y3 := (h v c).2 (by omega)
        omega
      · rw [c]; exact ⟨Int.le_refl _, fun _ => Int.le_refl _⟩
theorem Spt.old {C C' : Int → Prop} {N B : Int → Int} {k t0 b0 e0 w0 t b e w x : Int} (hS : Spt C N B k t0 b0 e0 w0 t b e w) (hn : ¬ (t * B x < N x * b)) (hn2 : e = k → N x * b = t * B x → w ≤ x) (hC' : ∀ v, C' v ↔ (C v ∨ v = x)) : Spt C' N B k t0 b0 e0 w0 t b e w := by
  rcases hS with ⟨e1, e2, e3, e4, h⟩ | ⟨e1, cw, e2, e3, hw, h⟩
  · rw [e1, e2] at hn
    refine .inl ⟨e1, e2, e3, e4, fun v hv => ?_⟩
    rcases (hC' v).mp hv with c | c
    · exact h v c
    · rw [c]; omega
  · rw [e2, e3] at hn hn2
    refine .inr ⟨e1, (hC' w).mpr (.inl cw), e2, e3, hw, fun v hv => ?_⟩
    rcases (hC' v).mp hv with c | c
    · exact h v c
    · rw [c]; exact ⟨by omega, fun z => hn2 e1 z⟩
theorem Spt.cg {C C' : Int → Prop} {N B : Int → Int} {k t0 b0 e0 w0 t b e w : Int} (hS : Spt C N B k t0 b0 e0 w0 t b e w) (hC' : ∀ v, C' v ↔ C v) : Spt C' N B k t0 b0 e0 w0 t b e w := by
  have : C' = C := funext (fun v => propext (hC' v))
  rw [this]; exact hS
theorem Spt.u {C : Int → Prop} {N B : Int → Int} {k t0 b0 e0 w0 w0' t b e w t' b' e' w' : Int} (hS : Spt C N B k t0 b0 e0 w0 t b e w) (hT : Spt C N B k t0 b0 e0 w0' t' b' e' w') (hw : e0 ≠ -1 → w0 = w0') : t = t' ∧ b = b' ∧ e = e' ∧ (e ≠ -1 → w = w') := by
  rcases hS with ⟨e1, e2, e3, e4, h⟩ | ⟨e1, cw, e2, e3, hh, h⟩
  · rcases hT with ⟨f1, f2, f3, f4, g⟩ | ⟨f1, cw', f2, f3, hh', g⟩
    · exact ⟨e1.trans f1.symm, e2.trans f2.symm, e3.trans f3.symm, fun z => by rw [e4, f4]; exact hw (by rw [← e3]; exact z)⟩
    · have := h w' cw'; omega
  · rcases hT with ⟨f1, f2, f3, f4, g⟩ | ⟨f1, cw', f2, f3, hh', g⟩
    · have := g w cw; omega
    · have a1 := (h w' cw').1
      have a2 := (g w cw).1
      have a3 := (h w' cw').2 (by omega)
      have a4 := (g w cw).2 (by omega)
      have e : w = w' := by omega
      rw [e] at e2 e3
      exact ⟨e2.trans f2.symm, e3.trans f3.symm, e1.trans f1.symm, fun _ => e⟩
/-- first of its class -/
def fs1 (nd : Int → Int) (f : Int) : Prop := 0 ≤ nd f ∧ ∀ g, 0 ≤ g → g < f → nd g ≠ nd f
theorem lst1 {P : Int → Prop} : ∀ k : Nat, (∃ f : Int, 0 ≤ f ∧ f < k ∧ P f) → ∃ f : Int, 0 ≤ f ∧ f < k ∧ P f ∧ ∀ g : Int, 0 ≤ g → g < f → ¬ P g
  | 0 => fun ⟨f, a, b, _⟩ => by omega
  | k + 1 => fun ⟨f, a, b, c⟩ => by
    by_cases q : ∃ f : Int, 0 ≤ f ∧ f < k ∧ P f
    · obtain ⟨g, g0, g1, g2⟩ := lst1 k q
      exact ⟨g, g0, (by omega), g2⟩
    · have e : f = k := by
        by_cases e : f = k
        · exact e
        · exact absurd ⟨f, a, (by omega), c⟩ q
      rw [e] at c
      exact ⟨k, (by omega), (by omega), c, fun g g0 g1 gp => q ⟨g, g0, (by omega), gp⟩⟩
theorem fs1_split {nd nd' : Int → Int} {n s : Int} {N : Nat} (hn : 0 ≤ n) (hs : n < s) (h0 : ∀ f : Int, 0 ≤ f → f < N → nd f < s) (h1 : ∀ f : Int, 0 ≤ f → f < N → nd f = n → nd' f = s ∨ nd' f = s + 1) (h2 : ∀ f : Int, 0 ≤ f → f < N → nd f ≠ n → nd' f = nd f) (x0 : ∃ f : Int, 0 ≤ f ∧ f < N ∧ nd' f = s) (x1 : ∃ f : Int, 0 ≤ f ∧ f < N ∧ nd' f = s + 1) : ctp (fs1 nd) N + 1 ≤ ctp (fs1 nd') N := by
  obtain ⟨f, f0, f1, f2, f3⟩ := lst1 N x0
  obtain ⟨g, g0, g1, g2, g3⟩ := lst1 N x1
  have nf : nd f = n := by
    by_cases z : nd f = n
    · exact z
    · have := h2 f f0 f1 z; have := h0 f f0 f1; omega
  have ng : nd g = n := by
    by_cases z : nd g = n
    · exact z
    · have := h2 g g0 g1 z; have := h0 g g0 g1; omega
  have ff : fs1 nd' f := ⟨(by omega), fun j j0 j1 => by rw [f2]; exact f3 j j0 j1⟩
  have fg : fs1 nd' g := ⟨(by omega), fun j j0 j1 => by rw [g2]; exact g3 j j0 j1⟩
  refine ctp_lt N (fun j j0 j1 hj => ?_) ?_
  · obtain ⟨p, q⟩ := hj
    by_cases z : nd j = n
    · refine ⟨by rcases h1 j j0 j1 z with y | y <;> omega, fun i i0 i1 => ?_⟩
      have := q i i0 i1
      have e := h2 i i0 (by omega) (fun y => this (y.trans z.symm))
      have := h0 i i0 (by omega)
      rcases h1 j j0 j1 z with y | y <;> omega
    · have ej := h2 j j0 j1 z
      refine ⟨by omega, fun i i0 i1 => ?_⟩
      rw [ej]
      have := h0 j j0 j1
      by_cases y : nd i = n
      · rcases h1 i i0 (by omega) y with u | u <;> omega
      · rw [h2 i i0 (by omega) y]; exact q i i0 i1
  · by_cases z : f < g
    · exact ⟨g, g0, g1, fg, fun y => y.2 f f0 z (nf.trans ng.symm)⟩
    · have : f ≠ g := fun y => by rw [y] at f2; omega
      exact ⟨f, f0, f1, ff, fun y => y.2 g g0 (by omega) (ng.trans nf.symm)⟩
end TreeP
