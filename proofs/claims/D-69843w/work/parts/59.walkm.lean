/-! ===== LAYER 2: the model's walk; outline ===== -/
section WalkM
variable {wh wm : rhW}
theorem c_walkAround (hm : rh_ms wm) {i a W H : Int} (M : rhM) (hW : M 0 17 = W) (hH : M 0 18 = H) (hW0 : 0 < W) (hWb : W ≤ 128) (hHb : H ≤ 96) (hN0 : 0 ≤ W * H) (hN : W * H ≤ 6144) (hi : 0 ≤ i ∧ i < 300) (hf0 : 0 ≤ M 22 i) {n : Nat} {g : Nat → w3} {I : Int → Int → Prop} (hI0 : ∀ u v, I u v ↔ (0 ≤ u ∧ u < W) ∧ (0 ≤ v ∧ v < H) ∧ M 9 (W * v + u) = i) (hw : Wlk I n g (M 22 i % W, M 22 i / W, 0)) :
    rC1 wm YX32_walkAround 2 [(2, 0), (0, i), (0, a)] M (fun r M' => r = 0 ∧ frx (fun c j => (c = 0 ∧ 32 ≤ j ∧ j ≤ 38) ∨ c = 11) M M' ∧ M' 0 35 = n ∧ M' 0 36 = crn g n ∧ M' 0 38 = askd g a n) := by
  refine rC1.of (by decide) (LE0 rfl) ?_
  refine rh1.of (rX32_walkAround_0 hm _ _ _ ?_)
  rw [hW]
  refine ⟨hi, ⟨hf0, hW0⟩, fun u0 eu0 => ⟨hi, ⟨hf0, hW0⟩, fun v0 ev0 => ?_⟩⟩
  rw [← eu0, ← ev0] at hw
  obtain ⟨r, M1, E1, -, f1, k11⟩ := c_alone hm (i := i) M hW hH hN0 hN
  refine rh1.s (vX32_walkAround_27 hm E1 (LE0 rfl)) ?_
  refine rh1.of (rX32_walkAround_30 hm _ _ _ _ ?_)
  have hII : ∀ u v, I u v ↔ pcM M1 W H u v := fun u v => by
    rw [hI0]
    unfold pcM
    constructor
    · intro ⟨y1, y2, y3⟩
      have := ix_b y1.1 y1.2 y2.1 y2.2
      refine ⟨y1.1, y2.1, y1.2, y2.2, ?_⟩
      rw [Int.mul_comm, k11 _ this.1 this.2, if_pos y3]; decide
    · intro ⟨y1, y2, y3, y4, y5⟩
      have := ix_b y1 y3 y2 y4
      refine ⟨⟨y1, y3⟩, ⟨y2, y4⟩, ?_⟩
      rw [Int.mul_comm, k11 _ this.1 this.2] at y5
      by_cases w : M 9 (W * v + u) = i
      · exact w
      · rw [if_neg w] at y5; exact absurd rfl y5
  have hIe : I = pcM M1 W H := funext (fun u => funext (fun v => propext (hII u v)))
  clear hII
  replace hI0 := Hid.mk hI0
  rw [hIe] at hw
  obtain ⟨hn, g0, gn, gw, go, gx⟩ := hw
  replace gx := Hid.mk gx
  replace gw := Hid.mk gw
  have hI : ∀ u v, pcM M1 W H u v → (0 ≤ u ∧ u < W) ∧ (0 ≤ v ∧ v < H) := fun u v h => ⟨⟨h.1, h.2.2.1⟩, ⟨h.2.1, h.2.2.2.1⟩⟩
  have gb : ∀ m, m ≤ n → (0 ≤ (g m).1 ∧ (g m).1 ≤ 128) ∧ (0 ≤ (g m).2.1 ∧ (g m).2.1 ≤ 96) ∧ (0 ≤ (g m).2.2 ∧ (g m).2.2 < 4) := fun m hm => (go m hm).b hI hWb hHb
  replace gb := Hid.mk gb
  clear go
  have hW1 : M1 0 17 = W := by rw [f1 _ _ (by omega), hW]
  have hH1 : M1 0 18 = H := by rw [f1 _ _ (by omega), hH]
  have key : ∀ (vq : Nat) (m : Nat) (M' : rhM) (fl : Int), ((n : Int) - m).toNat = vq → (m ≤ n) → (frx (fun c j => c = 0 ∧ 32 ≤ j ∧ j ≤ 38) M1 M') → (M' 0 32 = (g m).1) → (M' 0 33 = (g m).2.1) → (M' 0 34 = (g m).2.2) → (M' 0 35 = m) → (M' 0 36 = crn g m) → (M' 0 38 = askd g a m) → ((fl ≠ 0 ↔ m < n)) → rh1 wm YX32_walkAround 2 64 [(0, 2, 0), (2, 0, a), (3, 0, u0), (4, 0, v0), (5, 0, fl)] [] M' (fun r M' => r = 0 ∧ frx (fun c j => (c = 0 ∧ 32 ≤ j ∧ j ≤ 38) ∨ c = 11) M M' ∧ M' 0 35 = n ∧ M' 0 36 = crn g n ∧ M' 0 38 = askd g a n) := by
    intro vq
    induction vq using Nat.strongRecOn with
    | ind vq ih =>
      intro m M' fl hvq m1 f h32 h33 h34 h35 h36 h38 hfl
      replace hfl := Hid.mk hfl
      refine rh1.of (rX32_walkAround_64 hm _ _ _ _ _ ?_)
      refine ⟨fun y => ?_, fun y => ?_⟩
      · have m1 := hfl.out.mp y
        obtain ⟨b1, b2, b3⟩ := gb.out m (by omega)
        obtain ⟨w1, w2, w4⟩ := gw.out m m1
        obtain ⟨c1, c2, c3⟩ := gb.out (m + 1) (by omega)
        have cb := crn_b g (m + 1)
        have cb0 := crn_b g m
        intro q eq l el
        rw [rh_set_j (by decide), h35] at el
        refine ⟨⟨by omega, by omega⟩, fun M2 e2 p ep => ?_⟩
        have t32 : M2 0 32 = (g m).1 := by rw [e2]; simp [rh_sets, h32]
        have t33 : M2 0 33 = (g m).2.1 := by rw [e2]; simp [rh_sets, h33]
        have t34 : M2 0 34 = (g m).2.2 := by rw [e2]; simp [rh_sets, h34]
        have tp : p = (g (m + 1)).1 := by
          rw [ep, t32, t34, w1, rh_ifd, rh_ifd]
          rcases tb23 _ b3 with ⟨e, e2, e3⟩ | ⟨e, e2, e3⟩ | ⟨e, e2, e3⟩ | ⟨e, e2, e3⟩ <;> rw [e2, e] <;> rfl
        refine ⟨⟨by omega, by omega⟩, fun r er => ?_⟩
        have tr : r = (g (m + 1)).2.1 := by
          rw [er, rh_set_j (by decide), rh_set_j (by decide), t33, t34, w2, rh_ifd, rh_ifd]
          rcases tb23 _ b3 with ⟨e, e2, e3⟩ | ⟨e, e2, e3⟩ | ⟨e, e2, e3⟩ | ⟨e, e2, e3⟩ <;> rw [e3, e] <;> rfl
        refine ⟨⟨by omega, by omega⟩, fun M3 e3 => ?_⟩
        have f3 : frx (fun c j => c = 0 ∧ 32 ≤ j ∧ j ≤ 38) M1 M3 := by
          rw [e3, e2]
          exact (((f.st (by omega)).st (by omega)).st (by omega)).st (by omega)
        have s32 : M3 0 32 = (g (m + 1)).1 := by rw [e3, ← tp]; simp [rh_sets]
        have s33 : M3 0 33 = (g (m + 1)).2.1 := by rw [e3, ← tr]; simp [rh_sets]
        have s34 : M3 0 34 = (g m).2.2 := by rw [e3]; simp [rh_sets, t34]
        have s35 : M3 0 35 = ((m + 1 : Nat) : Int) := by rw [e3, e2]; simp [rh_sets, el]
        have s36 : M3 0 36 = crn g m := by rw [e3, e2]; simp [rh_sets, h36]
        have s38 : M3 0 38 = askd g a (m + 1) := by
          rw [e3, e2]
          simp only [rh_sets, Int.reduceEq, reduceIte]
          rw [eq, h35, h34, h38, rh_ifd]; rfl
        rw [s34]
        have hpc : pcM M3 W H = pcM M1 W H := by
          unfold pcM; rw [f3.cell (a := 11) (fun j => (by omega))]
        -- after the turn
        have fin : ∀ (d : Int) (M4 : rhM), M4 = rh_set M3 0 34 d → d = (g (m + 1)).2.2 → ∀ c : Int, c = M4 0 36 + rh_if (M4 0 34 ≠ (g m).2.2) (1 : Int) 0 → rI c ∧ ∀ z : Int, z = rh_if (rh_set M4 0 36 c 0 32 ≠ u0 ∨ (rh_set M4 0 36 c 0 33 ≠ v0 ∨ rh_set M4 0 36 c 0 34 ≠ 0)) (1 : Int) 0 → rh1 wm YX32_walkAround 2 64 [(0, 2, 0), (2, 0, a), (3, 0, u0), (4, 0, v0), (5, 0, z)] [] (rh_set M4 0 36 c) (fun r M' => r = 0 ∧ frx (fun c j => (c = 0 ∧ 32 ≤ j ∧ j ≤ 38) ∨ c = 11) M M' ∧ M' 0 35 = n ∧ M' 0 36 = crn g n ∧ M' 0 38 = askd g a n) := by
          intro d M4 e4 ed c ec
          have ec2 : c = crn g (m + 1) := by
            rw [ec, e4, rh_set_j (by decide), rh_set_s, s36, ed, rh_ifd]; rfl
          refine ⟨by rw [ec2]; exact ⟨by omega, by omega⟩, fun z ez => ?_⟩
          have v32 : rh_set M4 0 36 c 0 32 = (g (m + 1)).1 := by rw [e4, ← s32]; simp [rh_sets]
          have v33 : rh_set M4 0 36 c 0 33 = (g (m + 1)).2.1 := by rw [e4, ← s33]; simp [rh_sets]
          have v34 : rh_set M4 0 36 c 0 34 = (g (m + 1)).2.2 := by rw [e4, ← ed]; simp [rh_sets]
          rw [v32, v33, v34] at ez
          have hz : z ≠ 0 ↔ m + 1 < n := by
            by_cases w : (g (m + 1)).1 ≠ u0 ∨ ((g (m + 1)).2.1 ≠ v0 ∨ (g (m + 1)).2.2 ≠ 0)
            · rw [ez, rh_if_t w]
              refine ⟨fun _ => ?_, fun _ => by decide⟩
              by_cases e : m + 1 = n
              · rw [e, gn] at w
                rcases w with w | w | w <;> exact absurd rfl w
              · omega
            · rw [ez, rh_if_f w]
              refine ⟨fun k => absurd rfl k, fun k => ?_⟩
              refine absurd ?_ (gx.out (m + 1) (by omega) k)
              have w' : (g (m + 1)).1 = u0 ∧ (g (m + 1)).2.1 = v0 ∧ (g (m + 1)).2.2 = 0 := by omega
              exact Prod.ext w'.1 (Prod.ext w'.2.1 w'.2.2)
          refine ih _ (by omega) (m + 1) _ z rfl (by omega) ?_ v32 v33 v34 ?_ ?_ ?_ hz
          · rw [e4]; exact (f3.st (by omega)).st (by omega)
          · rw [e4, ← s35]; simp [rh_sets]
          · rw [rh_set_s, ec2]
          · rw [e4, ← s38]; simp [rh_sets]
        have E2 := c_ahead hm (s := 0) M3 (by rw [f3 _ _ (by omega), hW1]) (by rw [f3 _ _ (by omega), hH1]) hWb hHb hN (by rw [s32]; exact c1) (by rw [s33]; exact c2) (by rw [s34]; exact b3) (.inl rfl)
        rw [s32, s33, s34, hpc, if_pos rfl] at E2
        refine rh1.s (vX32_walkAround_178 hm E2 (LE0 rfl)) ?_
        refine rh1.of (rX32_walkAround_181 hm _ _ _ _ _ _ ?_)
        rw [s34]
        refine ⟨fun y => ⟨⟨by omega, by omega⟩, ⟨by omega, by omega⟩, fun d ed M4 e4 => ?_⟩, fun y => ?_⟩
        · have yl : Qc (pcM M1 W H) (g (m + 1)).1 (g (m + 1)).2.1 ((g m).2.2 + 3) := by
            by_cases w : Qc (pcM M1 W H) (g (m + 1)).1 (g (m + 1)).2.1 ((g m).2.2 + 3)
            · exact w
            · rw [rh_if_f w] at y; exact absurd rfl y
          refine fin d M4 e4 ?_
          rw [ed]
          rcases w4 with ⟨_, w⟩ | ⟨w, _⟩ | ⟨w, _⟩
          · exact w.symm
          · exact absurd yl w
          · exact absurd yl w
        · have yl : ¬ Qc (pcM M1 W H) (g (m + 1)).1 (g (m + 1)).2.1 ((g m).2.2 + 3) := fun w => y (by rw [rh_if_t w]; decide)
          have E3 := c_ahead hm (s := 1) M3 (by rw [f3 _ _ (by omega), hW1]) (by rw [f3 _ _ (by omega), hH1]) hWb hHb hN (by rw [s32]; exact c1) (by rw [s33]; exact c2) (by rw [s34]; exact b3) (.inr rfl)
          rw [s32, s33, s34, hpc, if_neg (by decide)] at E3
          refine rh1.s (vX32_walkAround_197 hm E3 (LE0 rfl)) ?_
          refine rh1.of (rX32_walkAround_200 hm _ _ _ _ _ _ ?_)
          rw [s34]
          refine ⟨fun _ => ⟨by omega, by omega⟩, fun _ => ⟨by omega, by omega⟩, fun d ed M4 e4 => ?_⟩
          refine fin d M4 e4 ?_
          rw [ed]
          rcases w4 with ⟨w, _⟩ | ⟨_, w, w5⟩ | ⟨_, w, w5⟩
          · exact absurd w yl
          · rw [rh_if_t (show rh_if (Qc (pcM M1 W H) (g (m + 1)).1 (g (m + 1)).2.1 (g m).2.2) (1 : Int) 0 ≠ 0 by rw [rh_if_t w]; decide), w5]
          · rw [rh_if_f (show ¬ (rh_if (Qc (pcM M1 W H) (g (m + 1)).1 (g (m + 1)).2.1 (g m).2.2) (1 : Int) 0 ≠ 0) by rw [rh_if_f w]; exact fun z => z rfl), w5]
      · have hmn : m = n := by
          have : ¬ m < n := fun z => y (hfl.out.mpr z)
          omega
        subst hmn
        exact ⟨rfl, (f1.w (fun c j h => .inr h)).tr (f.w (fun c j h => .inl h)), h35, h36, h38⟩
  refine key _ 0 _ 1 rfl (by omega) ?_ (by simp [rh_sets, g0]) (by simp [rh_sets, g0]) (by simp [rh_sets, g0]) (by simp [rh_sets]) (by simp [rh_sets, crn]) (by simp [rh_sets, askd]) ⟨fun _ => by omega, fun _ => by decide⟩
  exact (((((frx.rf.st (by omega)).st (by omega)).st (by omega)).st (by omega)).st (by omega)).st (by omega)
end WalkM
