/-! ===== LAYER 2: levelOf ===== -/
section Level
variable {wh wm : rhW}
/-- sums of a table's first t numbers; weighted -/
def sN (c : Int → Int) : Nat → Int
  | 0 => 0
  | t + 1 => sN c t + c t
def sW (c : Int → Int) : Nat → Int
  | 0 => 0
  | t + 1 => sW c t + t * c t
theorem sN_up {c c' : Int → Int} {g : Int} (h0 : 0 ≤ g) (h : ∀ j : Int, c' j = if j = g then c j + 1 else c j) : ∀ t : Nat, sN c' t = sN c t + (if g < t then 1 else 0)
  | 0 => by simp [sN]; omega
  | t + 1 => by
    have := sN_up h0 h t
    simp only [sN, this, h]
    by_cases e : (t : Int) = g
    · rw [if_pos e, if_neg (by omega), if_pos (by omega)]; omega
    · rw [if_neg e]
      by_cases e2 : g < t
      · rw [if_pos e2, if_pos (by omega)]; omega
      · rw [if_neg e2, if_neg (by omega)]; omega
theorem sW_up {c c' : Int → Int} {g : Int} (h0 : 0 ≤ g) (h : ∀ j : Int, c' j = if j = g then c j + 1 else c j) : ∀ t : Nat, sW c' t = sW c t + (if g < t then g else 0)
  | 0 => by simp [sW]; omega
  | t + 1 => by
    have := sW_up h0 h t
    simp only [sW, this, h]
    by_cases e : (t : Int) = g
    · rw [if_pos e, if_neg (by omega), if_pos (by omega), Int.mul_add, e]; omega
    · rw [if_neg e]
      by_cases e2 : g < t
      · rw [if_pos e2, if_pos (by omega)]; omega
      · rw [if_neg e2, if_neg (by omega)]; omega
theorem sN_0 {c : Int → Int} (h : ∀ j : Int, 0 ≤ j → j < 256 → c j = 0) : ∀ t : Nat, t ≤ 256 → sN c t = 0 ∧ sW c t = 0
  | 0, _ => by simp [sN, sW]
  | t + 1, ht => by
    obtain ⟨a, b⟩ := sN_0 h t (by omega)
    simp only [sN, sW, a, b, h t (by omega) (by omega)]
    simp
theorem sN_c {c c' : Int → Int} (h : ∀ j : Int, 0 ≤ j → j < 256 → c j = c' j) : ∀ t : Nat, t ≤ 256 → sN c t = sN c' t ∧ sW c t = sW c' t
  | 0, _ => by simp [sN, sW]
  | t + 1, ht => by
    obtain ⟨a, b⟩ := sN_c h t (by omega)
    simp only [sN, sW, a, b, h t (by omega) (by omega)]
    exact ⟨trivial, trivial⟩
/-- what is left above t -/
theorem sD {c : Int → Int} (h : ∀ j : Int, 0 ≤ j → j < 256 → 0 ≤ c j) : ∀ (d t : Nat), t + d ≤ 256 → 0 ≤ sW c (t + d) - sW c t ∧ sW c (t + d) - sW c t ≤ 255 * (sN c (t + d) - sN c t) ∧ 0 ≤ sN c (t + d) - sN c t
  | 0, t, _ => by simp
  | d + 1, t, hd => by
    have ih := sD h d t (by omega)
    have h2 := h ((t + d : Nat) : Int) (by omega) (by omega)
    have h3 : ((t + d : Nat) : Int) * c ((t + d : Nat) : Int) ≤ 255 * c ((t + d : Nat) : Int) := Int.mul_le_mul_of_nonneg_right (by omega) h2
    have h4 : 0 ≤ ((t + d : Nat) : Int) * c ((t + d : Nat) : Int) := mul_nn (by omega) h2
    show 0 ≤ sW c ((t + d) + 1) - sW c t ∧ sW c ((t + d) + 1) - sW c t ≤ 255 * (sN c ((t + d) + 1) - sN c t) ∧ 0 ≤ sN c ((t + d) + 1) - sN c t
    simp only [sW, sN]
    omega
theorem pr_le {a b c d : Int} (h0 : 0 ≤ a) (h1 : a ≤ b) (h2 : 0 ≤ c) (h3 : c ≤ d) : a * c ≤ b * d := by
  have h4 : a * c ≤ b * c := Int.mul_le_mul_of_nonneg_right h1 h2
  have h5 : b * c ≤ b * d := Int.mul_le_mul_of_nonneg_left h3 (by omega)
  omega
/-- the square that doesn't run over -/
theorem lv_sq {all s sum n : Int} (h0 : 0 < n) (h1 : n < all) (h2 : all ≤ 6144) (h3 : 0 ≤ s) (h4 : s ≤ 255 * n) (h5 : 0 ≤ sum - s) (h6 : sum - s ≤ 255 * (all - n)) :
    (0 ≤ n * (all - n) ∧ n * (all - n) ≤ 9437184 ∧ 0 < n * (all - n)) ∧ (-2406481920 ≤ all * s - sum * n ∧ all * s - sum * n ≤ 2406481920) ∧ (0 ≤ (all * s - sum * n) * (all * s - sum * n) ∧ (all * s - sum * n) * (all * s - sum * n) ≤ 5791155231286886400) := by
  have e : all * s - sum * n = (all - n) * s - (sum - s) * n := by
    rw [Int.sub_mul, Int.sub_mul]
    have := Int.mul_comm n s
    omega
  have p1 : 0 < n * (all - n) := Int.mul_pos h0 (by omega)
  have p2 : n * (all - n) ≤ 9437184 := by
    have h7 : 0 ≤ (2 * n - all) * (2 * n - all) := by
      rcases Int.le_total 0 (2 * n - all) with hz | hz
      · exact mul_nn hz hz
      · have := mul_nn (a := -(2 * n - all)) (b := -(2 * n - all)) (by omega) (by omega)
        rwa [Int.neg_mul_neg] at this
    have h8 : (2 * n - all) * (2 * n - all) = all * all - 4 * (n * (all - n)) := by
      simp only [Int.sub_mul, Int.mul_sub, Int.mul_assoc]
      have a1 := Int.mul_comm all n
      have a2 : n * (2 * n) = 2 * (n * n) := by rw [Int.mul_left_comm]
      have a3 : all * (2 * n) = 2 * (n * all) := by rw [Int.mul_left_comm, a1]
      omega
    have h9 : all * all ≤ 6144 * 6144 := pr_le (by omega) h2 (by omega) h2
    omega
  have q1 : 0 ≤ (all - n) * s := mul_nn (by omega) h3
  have q2 : (all - n) * s ≤ 255 * (n * (all - n)) := by
    have : (all - n) * s ≤ (all - n) * (255 * n) := Int.mul_le_mul_of_nonneg_left h4 (by omega)
    have e2 : (all - n) * (255 * n) = 255 * (n * (all - n)) := by rw [Int.mul_left_comm, Int.mul_comm (all - n) n]
    omega
  have q3 : 0 ≤ (sum - s) * n := mul_nn h5 (by omega)
  have q4 : (sum - s) * n ≤ 255 * (n * (all - n)) := by
    have : (sum - s) * n ≤ (255 * (all - n)) * n := Int.mul_le_mul_of_nonneg_right h6 (by omega)
    have e2 : (255 * (all - n)) * n = 255 * (n * (all - n)) := by rw [Int.mul_assoc, Int.mul_comm (all - n) n]
    omega
  have d1 : -2406481920 ≤ all * s - sum * n ∧ all * s - sum * n ≤ 2406481920 := by rw [e]; omega
  refine ⟨⟨by omega, p2, p1⟩, d1, ?_⟩
  generalize all * s - sum * n = d at d1
  rcases Int.le_total 0 d with hz | hz
  · exact ⟨mul_nn hz hz, by have := pr_le hz d1.2 hz d1.2; omega⟩
  · have e3 : d * d = -d * -d := by rw [Int.neg_mul_neg]
    rw [e3]
    exact ⟨mul_nn (by omega) (by omega), by have := pr_le (a := -d) (b := 2406481920) (c := -d) (d := 2406481920) (by omega) (by omega) (by omega) (by omega); omega⟩
/-- isGreater -/
noncomputable def gtr (a b c d : Int) : Int := rh_if (a / b ≠ c / d) (rh_if (c / d < a / b) 1 0) (rh_if ((c % d) * b < (a % b) * d) 1 0)
theorem gtr_o {a b d : Int} (h1 : 0 < b) (h1' : b ≤ 9437184) (h3 : 0 < d) (h3' : d ≤ 9437184) : rL (a % b * d) := by
  have e1 := Int.emod_nonneg a (show b ≠ 0 by omega)
  have e2 := Int.emod_lt_of_pos a h1
  have e3 := mul_nn e1 (show 0 ≤ d by omega)
  have e4 := pr_le e1 (show a % b ≤ 9437184 by omega) (show 0 ≤ d by omega) h3'
  exact ⟨by omega, by omega⟩
theorem c_gtH (hh : rh_hs wh) {a b c d : Int} (M : rhM) (h0 : 0 ≤ a) (h1 : 0 < b) (h1' : b ≤ 9437184) (h2 : 0 ≤ c) (h3 : 0 < d) (h3' : d ≤ 9437184) : eC wh YX9_isGreater 0 [(1, a), (1, b), (1, c), (1, d)] M (gtr a b c d) M := by
  refine eC.of1 (rC1.of (by decide) (LE0 rfl) (rh1.of (rX9_isGreater_0 hh _ _ _ _ _ ⟨⟨h0, h1⟩, ⟨h2, h3⟩, fun z => ⟨?_, rfl⟩, fun z => ⟨⟨h0, h1⟩, ⟨h2, h3⟩, gtr_o h1 h1' h3 h3', gtr_o h3 h3' h1 h1', ?_, rfl⟩⟩)))
  · unfold gtr; rw [rh_if_t z]
  · unfold gtr; rw [rh_if_f z]
theorem c_gtM (hm : rh_ms wm) {a b c d : Int} (M : rhM) (h0 : 0 ≤ a) (h1 : 0 < b) (h1' : b ≤ 9437184) (h2 : 0 ≤ c) (h3 : 0 < d) (h3' : d ≤ 9437184) : eC wm YX32_isGreater 0 [(1, a), (1, b), (1, c), (1, d)] M (gtr a b c d) M := by
  refine eC.of1 (rC1.of (by decide) (LE0 rfl) (rh1.of (rX32_isGreater_0 hm _ _ _ _ _ ⟨⟨h0, h1⟩, ⟨h2, h3⟩, fun z => ⟨?_, rfl⟩, fun z => ⟨⟨h0, h1⟩, ⟨h2, h3⟩, gtr_o h1 h1' h3 h3', gtr_o h3 h3' h1 h1', ?_, rfl⟩⟩)))
  · unfold gtr; rw [rh_if_t z]
  · unfold gtr; rw [rh_if_f z]
/-- the last loop -/
theorem lv3 (hh : rh_hs wh) (hm : rh_ms wm) (Mh Mm : rhM) (all sum : Int) (h1 : all ≤ 6144) (hc : ∀ j : Int, 0 ≤ j → j < 256 → Mh 17 j = Mm 8 j ∧ 0 ≤ Mm 8 j) (hN : sN (Mm 8) 256 = all) (hW : sW (Mm 8) 256 = sum) :
    ∀ (v : Nat) (t : Nat) (best top by_ best2 down : Int), 255 - t = v → t ≤ 255 → ((best = -1 ∧ best2 = -1) ∨ (0 ≤ best ∧ best2 = top ∧ down = by_ ∧ 0 ≤ top ∧ top ≤ 5791155231286886400 ∧ 0 < by_ ∧ by_ ≤ 9437184)) →
      rh2 wh YX9_levelOf 1 98 [(0, 2, 16), (2, 1, all), (4, 1, sum), (6, 0, best), (7, 1, top), (9, 1, by_), (11, 1, sN (Mm 8) t), (13, 1, sW (Mm 8) t), (15, 0, (t : Int))] [] Mh
        wm YX32_levelOf 1 119 [(0, 2, 0), (2, 1, all), (4, 1, sum), (6, 1, sN (Mm 8) t), (8, 1, sW (Mm 8) t), (10, 1, best2), (12, 1, down), (14, 0, best), (15, 0, (t : Int))] [] Mm (fun r M' r2 M2' => r = r2 ∧ M' = Mh ∧ M2' = Mm) := by
  intro v
  induction v using Nat.strongRecOn with
  | ind v ih =>
    intro t best top by_ best2 down hv ht hb
    have hcn : ∀ j : Int, 0 ≤ j → j < 256 → 0 ≤ Mm 8 j := fun j a b => (hc j a b).2
    have B1 := sD hcn (t + 1) 0
    have B2 := sD hcn (256 - (t + 1)) (t + 1)
    have B3 := sD hcn t 0 (by omega)
    by_cases ht2 : t = 255
    · subst ht2
      refine rh2.l (rX9_levelOf_98 hh _ _ _ _ _ _ _ _ _ ⟨fun c => absurd c (by omega), fun c => ?_⟩)
      exact rh1.of (rX32_levelOf_119 hm _ _ _ _ _ _ _ _ _ ⟨fun c => absurd c (by omega), fun c => ⟨rfl, rfl, rfl⟩⟩)
    · have B1 := B1 (by omega)
      have B2 := B2 (by omega)
      rw [show t + 1 + (256 - (t + 1)) = 256 by omega, hN, hW] at B2
      simp only [Nat.zero_add] at B1 B3
      have z0 : sN (Mm 8) 0 = 0 := rfl
      have z1 : sW (Mm 8) 0 = 0 := rfl
      rw [z0, z1] at B1 B3
      have eN : sN (Mm 8) (t + 1) = sN (Mm 8) t + Mm 8 t := rfl
      have eW : sW (Mm 8) (t + 1) = sW (Mm 8) t + t * Mm 8 t := rfl
      have hct := hc t (by omega) (by omega)
      have eT : ((t + 1 : Nat) : Int) = (t : Int) + 1 := by omega
      refine rh2.l (rX9_levelOf_98 hh _ _ _ _ _ _ _ _ _ ⟨fun c => ?_, fun c => absurd (show (t : Int) < 255 by omega) c⟩)
      rw [hct.1, ← eN, ← eW]
      refine ⟨by omega, ⟨by omega, by omega⟩, by omega, fun x300 e300 => ?_⟩
      subst e300
      refine ⟨⟨by omega, by omega⟩, fun c2 => ?_, fun c2 => ⟨⟨by omega, by omega⟩, ?_⟩⟩
      · obtain ⟨⟨q0, q1, q2⟩, q3, q4⟩ := lv_sq (s := sW (Mm 8) (t + 1)) (sum := sum) c2.1 c2.2 h1 (by omega) (by omega) (by omega) (by omega)
        intro x301 e301
        subst e301
        refine ⟨⟨by omega, by omega⟩, fun x302 e302 => ?_⟩
        subst e302
        refine ⟨⟨by omega, by omega⟩, fun c3 => ?_, fun c3 => ⟨⟨by omega, by omega⟩, ⟨by omega, by omega⟩, ?_⟩⟩
        · -- both ask isGreater
          have hb2 : 0 ≤ best ∧ best2 = top ∧ down = by_ ∧ 0 ≤ top ∧ top ≤ 5791155231286886400 ∧ 0 < by_ ∧ by_ ≤ 9437184 := by
            rcases hb with h | h
            · exact absurd h.1 c3
            · exact h
          obtain ⟨b1, rfl, rfl, b4, b5, b6, b7⟩ := hb2
          refine rh2.r (rX32_levelOf_119 hm _ _ _ _ _ _ _ _ _ ⟨fun c => ?_, fun c => absurd (show (t : Int) < 255 by omega) c⟩)
          rw [Int.mul_comm (Mm 8 t) t, ← eN, ← eW]
          refine ⟨by omega, ⟨by omega, by omega⟩, by omega, fun x300 e300 => ?_⟩
          subst e300
          refine ⟨⟨by omega, by omega⟩, fun c2 => ?_, fun d2 => absurd c2 d2⟩
          intro x301 e301
          subst e301
          refine ⟨⟨by omega, by omega⟩, fun x302 e302 => ?_⟩
          subst e302
          refine ⟨⟨by omega, by omega⟩, fun d3 => ?_, fun d3 => absurd b4 d3⟩
          refine rh2.sl (eS.fxl 3 rfl ⟨by omega, by omega⟩ rfl) (rh2.sl (vX9_levelOf_188 (c_gtH hh Mh q4.1 q2 q1 b4 b6 b7) (LE0 rfl)) ?_)
          refine rh2.sr (eS.fxl 3 rfl ⟨by omega, by omega⟩ rfl) (rh2.sr (vX32_levelOf_210 (c_gtM hm Mm q4.1 q2 q1 b4 b6 b7) (LE0 rfl)) ?_)
          refine rh2.l (rX9_levelOf_191 hh _ _ _ _ _ _ _ _ _ _ _ _ ⟨fun _ => ⟨by omega, by omega⟩, ⟨by omega, by omega⟩, ?_⟩)
          refine rh2.r (rX32_levelOf_213 hm _ _ _ _ _ _ _ _ _ _ _ _ ⟨fun _ => ⟨by omega, by omega⟩, ⟨by omega, by omega⟩, ?_⟩)
          rw [← eT]
          generalize gtr _ _ _ _ = g
          by_cases hg : g ≠ 0
          · simp only [rh_if_t hg]
            exact ih _ (by omega) (t + 1) _ _ _ _ _ rfl (by omega) (.inr ⟨by omega, rfl, rfl, q4.1, q4.2, q2, q1⟩)
          · simp only [rh_if_f hg]
            exact ih _ (by omega) (t + 1) _ _ _ _ _ rfl (by omega) (.inr ⟨b1, rfl, rfl, b4, b5, b6, b7⟩)
        · have hb2 : best = -1 ∧ best2 = -1 := by
            rcases hb with h | h
            · exact h
            · omega
          obtain ⟨rfl, rfl⟩ := hb2
          refine rh2.r (rX32_levelOf_119 hm _ _ _ _ _ _ _ _ _ ⟨fun c => ?_, fun c => absurd (show (t : Int) < 255 by omega) c⟩)
          rw [Int.mul_comm (Mm 8 t) t, ← eN, ← eW]
          refine ⟨by omega, ⟨by omega, by omega⟩, by omega, fun x300 e300 => ?_⟩
          subst e300
          refine ⟨⟨by omega, by omega⟩, fun c2 => ?_, fun d2 => absurd c2 d2⟩
          intro x301 e301
          subst e301
          refine ⟨⟨by omega, by omega⟩, fun x302 e302 => ?_⟩
          subst e302
          refine ⟨⟨by omega, by omega⟩, fun d3 => absurd d3 (by omega), fun d3 => ⟨⟨by omega, by omega⟩, ⟨by omega, by omega⟩, ?_⟩⟩
          rw [← eT]
          exact ih _ (by omega) (t + 1) _ _ _ _ _ rfl (by omega) (.inr ⟨by omega, rfl, rfl, q4.1, q4.2, q2, q1⟩)
      · refine rh2.r (rX32_levelOf_119 hm _ _ _ _ _ _ _ _ _ ⟨fun c => ?_, fun c => absurd (show (t : Int) < 255 by omega) c⟩)
        rw [Int.mul_comm (Mm 8 t) t, ← eN, ← eW]
        refine ⟨by omega, ⟨by omega, by omega⟩, by omega, fun x300 e300 => ?_⟩
        subst e300
        refine ⟨⟨by omega, by omega⟩, fun d2 => absurd d2 c2, fun d2 => ⟨⟨by omega, by omega⟩, ?_⟩⟩
        rw [← eT]
        exact ih _ (by omega) (t + 1) _ _ _ _ _ rfl (by omega) hb
/-- the histogram -/
theorem lv2 (hh : rh_hs wh) (hm : rh_ms wm) (Mh Mm : rhM) (x p : Int) (hb : rh_bl wh 5 x 0) (hp : 0 ≤ p ∧ p < 8) (hx : x ≠ 17 ∧ x + 1 ≠ 17) (R : Rp Mh Mm x p) (Mh1 Mm1 : rhM) (g1 : frm (· = 17) Mh Mh1) (g2 : frm (· = 8) Mm Mm1) :
    ∀ (v : Nat) (k sum : Int) (Mh' Mm' : rhM), (Mm 4 p * Mm 5 p - k).toNat = v → 0 ≤ k → k ≤ Mm 4 p * Mm 5 p → frm (· = 17) Mh Mh' → frm (· = 8) Mm Mm' → 0 ≤ sum → sum ≤ 255 * k → (∀ j, 0 ≤ j → j < 256 → Mh' 17 j = Mm' 8 j ∧ 0 ≤ Mm' 8 j ∧ Mm' 8 j ≤ k) → sN (Mm' 8) 256 = k → sW (Mm' 8) 256 = sum →
      rh2 wh YX9_levelOf 1 34 [(0, 2, 16), (1, 2, x), (2, 1, Mm 4 p * Mm 5 p), (4, 1, sum), (6, 0, k)] [] Mh' wm YX32_levelOf 1 44 [(0, 2, 0), (1, 0, p), (2, 1, Mm 4 p * Mm 5 p), (4, 1, sum), (6, 0, k)] [] Mm' (fun r M' r2 M2' => r = r2 ∧ frm (· = 17) Mh M' ∧ frm (· = 8) Mm M2') := by
  obtain ⟨a1, a2, a3, a4, a5, a6, a7, a8, a9, a10⟩ := R
  intro v
  induction v using Nat.strongRecOn with
  | ind v ih =>
    intro k sum Mh' Mm' hv k0 k1 f1 f2 s0 s1 hc hN hW
    refine rh2.l (rX9_levelOf_34 hh _ _ _ _ _ hb ⟨fun c => ⟨⟨by omega, by omega⟩, fun g eg => ?_⟩, fun c => ?_⟩)
    · have hg := a10 k k0 (by omega)
      have e1 : Mh' (x + 1) k = Mh (x + 1) k := f1.at hx.2
      have e2 : Mm' 3 (6144 * p + k) = Mm 3 (6144 * p + k) := f2.at (by decide)
      rw [e1, hg.1] at eg
      rw [← e2] at eg hg
      have hcg := hc g (by omega) (by omega)
      refine ⟨by omega, by omega, ⟨by omega, by omega⟩, ⟨by omega, by omega⟩, ⟨by omega, by omega⟩, ?_⟩
      refine rh2.r (rX32_levelOf_44 hm _ _ _ _ _ ⟨fun d => ?_, fun d => absurd c d⟩)
      rw [← eg]
      refine ⟨⟨by omega, by omega⟩, by omega, fun y1 ey => ?_⟩
      refine ⟨by omega, ⟨by omega, by omega⟩, fun M301 eM => ?_⟩
      have e3 : M301 3 (6144 * p + k) = g := by rw [eM, rh_set_a (by decide), ← eg]
      rw [e3]
      refine ⟨⟨by omega, by omega⟩, fun y2 ey2 => ⟨⟨by omega, by omega⟩, ⟨by omega, by omega⟩, ?_⟩⟩
      subst ey2
      have hup : ∀ j : Int, M301 8 j = if j = g then Mm' 8 j + 1 else Mm' 8 j := fun j => by
        rw [eM, rh_sets, if_pos rfl, ey]
        by_cases e : j = g
        · rw [if_pos e, if_pos e, e]
        · rw [if_neg e, if_neg e]
      refine ih _ (by omega) (k + 1) (sum + g) _ _ rfl (by omega) (by omega) (f1.st rfl) (by rw [eM]; exact f2.st rfl) (by omega) (by omega) (fun j j0 j1 => ?_) ?_ ?_
      · have hj := hc j j0 j1
        rw [hup, rh_sets, if_pos rfl]
        by_cases e : j = g
        · rw [if_pos e, if_pos e, hcg.1, e]; omega
        · rw [if_neg e, if_neg e]; omega
      · rw [sN_up (c := Mm' 8) (by omega) hup 256, if_pos (by omega), hN]
      · rw [sW_up (c := Mm' 8) (by omega) hup 256, if_pos (by omega), hW]
    · refine rh2.r (rX32_levelOf_44 hm _ _ _ _ _ ⟨fun d => absurd d c, fun d => ?_⟩)
      have hk : k = Mm 4 p * Mm 5 p := by omega
      have := lv3 hh hm Mh' Mm' (Mm 4 p * Mm 5 p) sum a8 (fun j j0 j1 => ⟨(hc j j0 j1).1, (hc j j0 j1).2.1⟩) (by omega) hW _ 0 (-1) 0 1 (-1) 1 rfl (by omega) (.inl ⟨rfl, rfl⟩)
      obtain ⟨r, M', r2, M2', E1, E2, q1, q2, q3⟩ := this
      exact ⟨r, M', r2, M2', E1, E2, q1, by rw [q2]; exact f1, by rw [q3]; exact f2⟩
/-- levelOf, side by side -/
theorem c_level (hh : rh_hs wh) (hm : rh_ms wm) (Mh Mm : rhM) (x p : Int) (hb : rh_bl wh 5 x 0) (hp : 0 ≤ p ∧ p < 8) (hx : x ≠ 17 ∧ x + 1 ≠ 17) (R : Rp Mh Mm x p) :
    rC2 wh YX9_levelOf 1 [(2, 16), (2, x)] Mh wm YX32_levelOf 1 [(2, 0), (0, p)] Mm (fun r M' r2 M2' => r = r2 ∧ frm (· = 17) Mh M' ∧ frm (· = 8) Mm M2') := by
  have R0 := R
  obtain ⟨a1, a2, a3, a4, a5, a6, a7, a8, a9, a10⟩ := R
  refine rC2.of (by decide) (LE0 rfl) (by decide) (LE0 rfl) ?_
  refine rh2.l (rX9_levelOf_0 hh _ _ hb (rh2.r (rX32_levelOf_0 hm _ _ ?_)))
  have key : ∀ (v : Nat) (k : Int) (Mh' Mm' : rhM), (256 - k).toNat = v → 0 ≤ k → k ≤ 256 → frm (· = 17) Mh Mh' → frm (· = 8) Mm Mm' → (∀ j, 0 ≤ j → j < k → Mh' 17 j = 0 ∧ Mm' 8 j = 0) →
      rh2 wh YX9_levelOf 1 2 [(0, 2, 16), (1, 2, x), (2, 0, k)] [] Mh' wm YX32_levelOf 1 2 [(0, 2, 0), (1, 0, p), (2, 0, k)] [] Mm' (fun r M' r2 M2' => r = r2 ∧ frm (· = 17) Mh M' ∧ frm (· = 8) Mm M2') := by
    intro v
    induction v using Nat.strongRecOn with
    | ind v ih =>
      intro k Mh' Mm' hv h0 h1 f1 f2 hz
      refine rh2.l (rX9_levelOf_2 hh _ _ _ hb ⟨fun c1 => ⟨by omega, by constructor <;> omega, ?_⟩, fun c1 => ?_⟩)
      · refine rh2.r (rX32_levelOf_2 hm _ _ _ ⟨fun c2 => ⟨by omega, by constructor <;> omega, ?_⟩, fun c2 => absurd c1 c2⟩)
        refine ih _ (by omega) (k + 1) _ _ rfl (by omega) (by omega) (f1.st rfl) (f2.st rfl) (fun j a b => ?_)
        simp only [rh_sets]
        by_cases e : j = k
        · simp [e]
        · simp only [e]
          have := hz j a (by omega)
          simpa using this
      · rw [f1.at (a := x) (j := 1) hx.1, f1.at (a := x) (j := 2) hx.1, a1, a2]
        refine ⟨⟨by omega, by omega⟩, fun x300 e => ?_⟩
        subst e
        refine rh2.r (rX32_levelOf_2 hm _ _ _ ⟨fun c2 => absurd c2 c1, fun c2 => ⟨hp, hp, fun y e => ?_⟩⟩)
        rw [f2.at (a := 4) (j := p) (by decide), f2.at (a := 5) (j := p) (by decide)] at e
        subst e
        refine ⟨⟨by omega, by omega⟩, ?_⟩
        have z := sN_0 (c := Mm' 8) (fun j j0 j1 => (hz j j0 (by omega)).2) 256 (by omega)
        exact lv2 hh hm Mh Mm x p hb hp hx R0 Mh' Mm' f1 f2 _ 0 0 Mh' Mm' rfl (by omega) (by omega) f1 f2 (by omega) (by omega) (fun j j0 j1 => by have := hz j j0 (by omega); omega) z.1 z.2
  exact key _ 0 Mh Mm rfl (by omega) (by omega) frm.rf frm.rf (fun j a b => by omega)
end Level
