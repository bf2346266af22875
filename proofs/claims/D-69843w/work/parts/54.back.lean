/-! ===== LAYER 2: back (what shines through) ===== -/
section Back
variable {wh wm : rhW}
def bhv (g : Int → Int) (W H u v dx dy : Int) : Int := if 0 ≤ u - dx ∧ 0 ≤ v - dy ∧ u - dx < W ∧ v - dy < H then g (W * (v - dy) + (W - 1 - (u - dx))) else 255
theorem bhv_cg {g g' : Int → Int} {W H u v dx dy : Int} (hg : ∀ k, 0 ≤ k → k < W * H → g k = g' k) : bhv g W H u v dx dy = bhv g' W H u v dx dy := by
  unfold bhv
  split
  · rename_i h
    have := ix_b (W := W) (H := H) (x := W - 1 - (u - dx)) (y := v - dy) (by omega) (by omega) (by omega) (by omega)
    exact hg _ this.1 this.2
  · rfl
theorem bhv_b {g : Int → Int} {W H u v dx dy : Int} (hg : ∀ k, 0 ≤ k → k < W * H → 0 ≤ g k ∧ g k ≤ 255) : 0 ≤ bhv g W H u v dx dy ∧ bhv g W H u v dx dy ≤ 255 := by
  unfold bhv
  split
  · rename_i h
    have := ix_b (W := W) (H := H) (x := W - 1 - (u - dx)) (y := v - dy) (by omega) (by omega) (by omega) (by omega)
    exact hg _ this.1 this.2
  · exact ⟨by decide, by decide⟩
theorem c_behindH (hh : rh_hs wh) {x u v dx dy W H : Int} (hx : rh_bl wh 5 x 0) (M : rhM) (hW : M x 1 = W) (hH : M x 2 = H) (hWb : W ≤ 128) (hHb : H ≤ 96) (hN : W * H ≤ 6144) (hu : 0 ≤ u ∧ u < W) (hv : 0 ≤ v ∧ v < H) (hd : (-2 ≤ dx ∧ dx ≤ 2) ∧ (-2 ≤ dy ∧ dy ≤ 2)) :
    eC wh YX1_behind 1 [(2, x), (0, u), (0, v), (0, dx), (0, dy)] M (bhv (fun k => rh_and (M (x + 1) k) 255) W H u v dx dy) M := by
  refine eC.of1 (rC1.of (by decide) (LE0 rfl) ?_)
  refine rh1.of (rX1_behind_0 hh _ _ _ _ _ _ hx ?_)
  rw [hW, hH]
  intro a ea
  refine ⟨⟨by omega, by omega⟩, ⟨by omega, by omega⟩, fun _ => ⟨by omega, by omega⟩, fun z => ?_, ?_, rfl⟩
  · have := ix_b z.1 z.2.1 z.2.2.1 z.2.2.2
    exact ⟨by omega, by omega⟩
  · rw [rh_ifd]
    unfold bhv
    by_cases y : 0 ≤ u - dx ∧ 0 ≤ v - dy ∧ u - dx < W ∧ v - dy < H
    · rw [if_pos y, if_pos (by omega), ea]
    · rw [if_neg y, if_neg (by omega)]
theorem c_behindM (hm : rh_ms wm) {p u v dx dy W H : Int} (hp : 0 ≤ p ∧ p < 8) (M : rhM) (hW : M 4 p = W) (hH : M 5 p = H) (hWb : W ≤ 128) (hHb : H ≤ 96) (hN : W * H ≤ 6144) (hu : 0 ≤ u ∧ u < W) (hv : 0 ≤ v ∧ v < H) (hd : (-2 ≤ dx ∧ dx ≤ 2) ∧ (-2 ≤ dy ∧ dy ≤ 2)) :
    eC wm YX32_behind 1 [(2, 0), (0, p), (0, u), (0, v), (0, dx), (0, dy)] M (bhv (fun k => M 3 (6144 * p + k)) W H u v dx dy) M := by
  refine eC.of1 (rC1.of (by decide) (LE0 rfl) ?_)
  refine rh1.of (rX32_behind_0 hm _ _ _ _ _ _ ?_)
  rw [hW, hH]
  refine ⟨⟨by omega, by omega⟩, ⟨by omega, by omega⟩, fun _ _ => hp, fun _ _ _ => hp, fun _ => hp, fun _ => ⟨by omega, by omega⟩, fun _ => hp, fun z => ?_, ?_, rfl⟩
  · have := ix_b (W := W) (H := H) (x := W - 1 - (u - dx)) (y := v - dy) (by omega) (by omega) (by omega) (by omega)
    rw [Int.mul_comm W] at this
    exact ⟨by omega, by omega⟩
  · rw [rh_ifd]
    unfold bhv
    refine ite_congr rfl (fun _ => ?_) (fun _ => rfl)
    rw [Int.mul_comm W]
    congr 1
    omega
def ab (z : Int) : Int := if 0 ≤ z then z else 0 - z
def ky (dx dy : Int) : Int := 25 * (ab dx + ab dy) + 5 * (dy + 2) + dx + 2
theorem ab_b {z : Int} (h : -2 ≤ z ∧ z ≤ 2) : 0 ≤ ab z ∧ ab z ≤ 2 := by unfold ab; split <;> omega
theorem c_nearer {a b c d : Int} (M : rhM) (h1 : (-2 ≤ a ∧ a ≤ 2) ∧ (-2 ≤ b ∧ b ≤ 2)) (h2 : ((-2 ≤ c ∧ c ≤ 2) ∧ (-2 ≤ d ∧ d ≤ 2)) ) (hm : rh_ms wm) : eC wm YX32_isNearer 0 [(0, a), (0, b), (0, c), (0, d)] M (if ky a b < ky c d then 1 else 0) M := by
  refine eC.of1 (rC1.of (by decide) (LE0 rfl) ?_)
  refine rh1.of (rX32_isNearer_0 hm _ _ _ _ _ ?_)
  have a1 : ∀ z, rh_if (z < 0) (-z) z = ab z := fun z => by rw [rh_ifd]; unfold ab; split <;> split <;> omega
  have b1 := ab_b h1.1
  have b2 := ab_b h1.2
  have b3 := ab_b h2.1
  have b4 := ab_b h2.2
  intro n en
  rw [a1, a1] at en
  refine ⟨⟨by omega, by omega⟩, fun q eq => ?_⟩
  rw [a1, a1] at eq
  have e1 : ky a b = 25 * n + 5 * (b + 2) + a + 2 := by unfold ky; rw [en]
  have e2 : ky c d = 25 * q + 5 * (d + 2) + c + 2 := by unfold ky; rw [eq]
  rw [e1, e2]
  refine ⟨⟨by omega, by omega⟩, fun z => ?_, fun z => ⟨by rw [if_pos (by omega)], rfl⟩⟩
  have e3 : rh_if (n = q) (rh_if (d ≤ b) (rh_if (b = d ∧ a < c) (1 : Int) 0) 1) 0 = if 25 * n + 5 * (b + 2) + a + 2 < 25 * q + 5 * (d + 2) + c + 2 then 1 else 0 := by
    rw [rh_ifd, rh_ifd, rh_ifd]
    by_cases y : 25 * n + 5 * (b + 2) + a + 2 < 25 * q + 5 * (d + 2) + c + 2
    · rw [if_pos y, if_pos (by omega)]
      by_cases w : d ≤ b
      · rw [if_pos w, if_pos (by omega)]
      · rw [if_neg w]
    · rw [if_neg y]
      by_cases w : n = q
      · rw [if_pos w, if_pos (by omega), if_neg (by omega)]
      · rw [if_neg w]
  rw [e3]
  refine ⟨by split <;> exact ⟨by decide, by decide⟩, rfl, rfl⟩
/-- sums -/
def psc (F : Int → Int) : Nat → Int
  | 0 => 0
  | t + 1 => psc F t + F t
theorem psc_b {F : Int → Int} : ∀ t : Nat, (∀ j : Int, 0 ≤ j → j < t → 0 ≤ F j ∧ F j ≤ 65025) → 0 ≤ psc F t ∧ psc F t ≤ 65025 * t
  | 0, _ => by simp [psc]
  | t + 1, h => by
    have := psc_b t (fun j a b => h j a (by omega))
    have h2 := h t (by omega) (by omega)
    simp only [psc]
    omega
theorem psc_cg {F G : Int → Int} : ∀ t : Nat, (∀ j : Int, 0 ≤ j → j < t → F j = G j) → psc F t = psc G t
  | 0, _ => rfl
  | t + 1, h => by
    simp only [psc]
    rw [psc_cg t (fun j a b => h j a (by omega)), h t (by omega) (by omega)]
def scF (f g : Int → Int) (W H dx dy : Int) : Int → Int := fun k => (255 - f k) * (255 - bhv g W H (k % W) (k / W) dx dy)
def scr (f g : Int → Int) (W H dx dy : Int) : Int := psc (scF f g W H dx dy) (W * H).toNat
theorem mul255 {a b : Int} (ha : 0 ≤ a ∧ a ≤ 255) (hb : 0 ≤ b ∧ b ≤ 255) : 0 ≤ (255 - a) * (255 - b) ∧ (255 - a) * (255 - b) ≤ 65025 :=
  ⟨Int.mul_nonneg (by omega) (by omega), by have : (255 - a) * (255 - b) ≤ 255 * 255 := Int.mul_le_mul (by omega) (by omega) (by omega) (by decide); omega⟩
theorem scF_b {f g : Int → Int} {W H dx dy : Int} (hf : ∀ k, 0 ≤ k → k < W * H → 0 ≤ f k ∧ f k ≤ 255) (hg : ∀ k, 0 ≤ k → k < W * H → 0 ≤ g k ∧ g k ≤ 255) : ∀ j : Int, 0 ≤ j → j < ((W * H).toNat : Int) → 0 ≤ scF f g W H dx dy j ∧ scF f g W H dx dy j ≤ 65025 := fun j j0 j1 => mul255 (hf j j0 (by omega)) (bhv_b hg)
/-- offsets -/
abbrev ofs (dx dy : Int) : Prop := (-2 ≤ dx ∧ dx ≤ 2) ∧ (-2 ≤ dy ∧ dy ≤ 2)
def Best (S : Int → Int → Int) (bx bY : Int) : Prop := ofs bx bY ∧ ∀ dx dy, ofs dx dy → S dx dy ≤ S bx bY ∧ (S dx dy = S bx bY → ky bx bY ≤ ky dx dy)
theorem ky_inj {a b c d : Int} (h1 : ofs a b) (h2 : ofs c d) (h : ky a b = ky c d) : a = c ∧ b = d := by
  have b1 := ab_b h1.1
  have b2 := ab_b h1.2
  have b3 := ab_b h2.1
  have b4 := ab_b h2.2
  unfold ky at h
  omega
theorem Best.one {S S' : Int → Int → Int} {a b c d : Int} (hS : ∀ dx dy, ofs dx dy → S dx dy = S' dx dy) (h : Best S a b) (h' : Best S' c d) : a = c ∧ b = d := by
  have e1 := h.2 c d h'.1
  have e2 := h'.2 a b h.1
  rw [hS c d h'.1, hS a b h.1] at e1
  refine ky_inj h.1 h'.1 ?_
  have e3 : S' c d = S' a b := (by omega)
  have := e1.2 e3
  have := e2.2 e3.symm
  omega
def Bst (S : Int → Int → Int) (T c s : Int) : Prop := (s = -1 ∧ T ≤ 12) ∨ ∃ bx bY, ofs bx bY ∧ c = 5 * (bx + 2) + bY + 2 ∧ s = S bx bY ∧ ky bx bY < T ∧ ∀ dx dy, ofs dx dy → ky dx dy < T → S dx dy ≤ s ∧ (S dx dy = s → ky bx bY ≤ ky dx dy)
theorem ky_b {dx dy : Int} (h : ofs dx dy) : 12 ≤ ky dx dy ∧ ky dx dy < 125 := by
  have b1 := ab_b h.1
  have b2 := ab_b h.2
  unfold ky ab at *
  split <;> split <;> omega
theorem Bst.skip {S : Int → Int → Int} {T c s : Int} (B : Bst S T c s) (hT : T ≠ 12) (h : ∀ dx dy, ofs dx dy → ky dx dy ≠ T) : Bst S (T + 1) c s := by
  rcases B with ⟨b1, b2⟩ | ⟨bx, bY, b1, b2, b3, b4, b5⟩
  · exact .inl ⟨b1, (by omega)⟩
  · refine .inr ⟨bx, bY, b1, b2, b3, (by omega), fun dx dy hd hk => b5 dx dy hd ?_⟩
    have := h dx dy hd
    omega
theorem Bst.put {S : Int → Int → Int} {T c s dx dy : Int} (B : Bst S T c s) (hS : ∀ dx dy, ofs dx dy → 0 ≤ S dx dy) (hd : ofs dx dy) (hk : ky dx dy = T) : Bst S (T + 1) (rh_if (s < S dx dy) (((5 * (dx + 2)) + dy) + 2) c) (rh_if (S dx dy < s) s (S dx dy)) := by
  have h0 := hS dx dy hd
  have kb := ky_b hd
  have hu : ∀ {a b : Int}, ofs a b → ky a b = T → a = dx ∧ b = dy := fun ha hb => ky_inj ha hd (hb.trans hk.symm)
  refine .inr ?_
  rcases B with ⟨b1, b2⟩ | ⟨bx, bY, b1, b2, b3, b4, b5⟩
  · refine ⟨dx, dy, hd, by rw [rh_if_t (by omega)], by rw [rh_if_f (by omega)], (by omega), fun a b hb hk2 => ?_⟩
    have := ky_b hb
    obtain ⟨rfl, rfl⟩ := hu hb (by omega)
    rw [rh_if_f (by omega)]
    exact ⟨Int.le_refl _, fun _ => Int.le_refl _⟩
  · by_cases y : s < S dx dy
    · refine ⟨dx, dy, hd, by rw [rh_if_t y], by rw [rh_if_f (by omega)], (by omega), fun a b hb hk2 => ?_⟩
      rw [rh_if_f (by omega)]
      by_cases q : ky a b = T
      · obtain ⟨rfl, rfl⟩ := hu hb q
        exact ⟨Int.le_refl _, fun _ => Int.le_refl _⟩
      · have := (b5 a b hb (by omega)).1
        exact ⟨(by omega), fun e => by omega⟩
    · have e : rh_if (S dx dy < s) s (S dx dy) = s := by
        by_cases z : S dx dy < s
        · rw [rh_if_t z]
        · rw [rh_if_f z]; omega
      rw [e, rh_if_f y]
      refine ⟨bx, bY, b1, b2, b3, (by omega), fun a b hb hk2 => ?_⟩
      by_cases q : ky a b = T
      · obtain ⟨rfl, rfl⟩ := hu hb q
        exact ⟨(by omega), fun _ => by omega⟩
      · exact b5 a b hb (by omega)
theorem Bst.fin {S : Int → Int → Int} {c s : Int} (B : Bst S 125 c s) : ∃ bx bY, Best S bx bY ∧ c = 5 * (bx + 2) + bY + 2 := by
  rcases B with ⟨b1, b2⟩ | ⟨bx, bY, b1, b2, b3, b4, b5⟩
  · omega
  · exact ⟨bx, bY, ⟨b1, fun dx dy hd => by rw [← b3]; exact b5 dx dy hd (ky_b hd).2⟩, b2⟩
end Back
