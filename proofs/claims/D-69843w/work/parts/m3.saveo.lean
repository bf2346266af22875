/-! ===== LAYER 2: op save: faces, readings; the model ===== -/
section SaveO
variable {wh wm : rhW}
def Rmo (m p kd n : Int) : Prop := m < 40 ∧ (kd = 1 → n ≤ 6000) ∧ p + n + 5 ≤ 40000
theorem m_tl165 (hm : rh_ms wm) {B : rhM} {m p kd : Int} {l : List Int} (o : Mox B l) (h52 : B 0 252 = m) (h53 : B 0 253 = p) (hm' : 0 ≤ m ∧ m ≤ 40) (p0 : 0 ≤ p ∧ p ≤ 40000) (hl : l.length ≤ 16000) (P : Int → rhM → Prop) (h1 : ¬ Rmo m p kd l.length → P (-104) B) (h2 : Rmo m p kd l.length → rh1 wm YX32_save 4 273 [(0, 2, 0), (3, 0, p), (4, 0, 0)] [] (mhd B m p kd l.length) P) : rh1 wm YX32_save 4 165 [(0, 2, 0), (1, 0, kd)] [] B P := by
  obtain ⟨n, hn⟩ : ∃ n : Int, n = l.length := ⟨_, rfl⟩
  have o1 := o.1
  rw [← hn] at o1 h1 h2
  refine rh1.of (rX32_save_165 hm _ _ ?_)
  rw [h52, h53, o1]
  refine ⟨fun c => ⟨fun _ => ⟨by omega, by omega⟩, fun _ _ => ⟨by omega, by omega⟩, fun z => h1 ?_, fun z => ?_⟩, fun c => h1 ?_⟩
  · unfold Rmo
    intro q
    rcases z with z | z
    · omega
    · rcases z.2 with y | y
      · have := q.2.1 z.1; omega
      · omega
  · have q1 : ¬ (40000 < p + n + 5) := fun y => by
      by_cases k : kd = 1
      · exact z (.inr ⟨k, .inr y⟩)
      · exact z (.inl ⟨k, y⟩)
    have q2 : kd = 1 → n ≤ 6000 := fun k => Classical.byContradiction (fun y => z (.inr ⟨k, .inl (by omega)⟩))
    have rm : Rmo m p kd n := ⟨by omega, q2, by omega⟩
    refine ⟨⟨by omega, by omega⟩, ⟨by omega, by omega⟩, fun M3 e3 => ?_⟩
    have e4 : M3 0 177 = n := by rw [e3, rh_set_a (by decide), rh_set_a (by decide)]; exact o1
    rw [e4]
    refine ⟨⟨by omega, by omega⟩, fun M4 e5 => ?_⟩
    have e6 : M4 0 177 = n := by rw [e5, rh_set_a (by decide)]; exact e4
    rw [e6]
    refine ⟨⟨by omega, by omega⟩, ?_⟩
    rw [e5, e3]
    exact h2 rm
  · unfold Rmo
    omega
theorem m_tl173 (hm : rh_ms wm) {B : rhM} {m p kd : Int} {l : List Int} (o : Mox B l) (h52 : B 0 252 = m) (h53 : B 0 253 = p) (hm' : 0 ≤ m ∧ m ≤ 40) (p0 : 0 ≤ p ∧ p ≤ 40000) (hl : l.length ≤ 16000) (P : Int → rhM → Prop) (h1 : ¬ Rmo m p kd l.length → P (-104) B) (h2 : Rmo m p kd l.length → rh1 wm YX32_save 4 273 [(0, 2, 0), (3, 0, p), (4, 0, 0)] [] (mhd B m p kd l.length) P) : rh1 wm YX32_save 4 173 [(0, 2, 0), (1, 0, kd)] [] B P := by
  obtain ⟨n, hn⟩ : ∃ n : Int, n = l.length := ⟨_, rfl⟩
  have o1 := o.1
  rw [← hn] at o1 h1 h2
  refine rh1.of (rX32_save_173 hm _ _ ?_)
  rw [h52, h53, o1]
  refine ⟨fun c => ⟨fun _ => ⟨by omega, by omega⟩, fun _ _ => ⟨by omega, by omega⟩, fun z => h1 ?_, fun z => ?_⟩, fun c => h1 ?_⟩
  · unfold Rmo
    intro q
    rcases z with z | z
    · omega
    · rcases z.2 with y | y
      · have := q.2.1 z.1; omega
      · omega
  · have q1 : ¬ (40000 < p + n + 5) := fun y => by
      by_cases k : kd = 1
      · exact z (.inr ⟨k, .inr y⟩)
      · exact z (.inl ⟨k, y⟩)
    have q2 : kd = 1 → n ≤ 6000 := fun k => Classical.byContradiction (fun y => z (.inr ⟨k, .inl (by omega)⟩))
    have rm : Rmo m p kd n := ⟨by omega, q2, by omega⟩
    refine ⟨⟨by omega, by omega⟩, ⟨by omega, by omega⟩, fun M3 e3 => ?_⟩
    have e4 : M3 0 177 = n := by rw [e3, rh_set_a (by decide), rh_set_a (by decide)]; exact o1
    rw [e4]
    refine ⟨⟨by omega, by omega⟩, fun M4 e5 => ?_⟩
    have e6 : M4 0 177 = n := by rw [e5, rh_set_a (by decide)]; exact e4
    rw [e6]
    refine ⟨⟨by omega, by omega⟩, ?_⟩
    rw [e5, e3]
    exact h2 rm
  · unfold Rmo
    omega
theorem m_tl113 (hm : rh_ms wm) {B : rhM} {m p kd x N : Int} {l : List Int} (o : Mox B l) (hx : 0 ≤ x ∧ x < 8) (hN : B 4 x * B 5 x = N) (hN2 : 0 ≤ N ∧ N ≤ 6144) (h52 : B 0 252 = m) (h53 : B 0 253 = p) (hm' : 0 ≤ m ∧ m ≤ 40) (p0 : 0 ≤ p ∧ p ≤ 40000) (hl : l.length ≤ 16000) (P : Int → rhM → Prop) (h1 : ¬ Rmo m p kd l.length → P (-104) B) (h2 : Rmo m p kd l.length → rh1 wm YX32_save 4 273 [(0, 2, 0), (3, 0, p), (4, 0, 0)] [] (mhd B m p kd l.length) P) : rh1 wm YX32_save 4 113 [(0, 2, 0), (1, 0, kd), (2, 0, x), (3, 0, N)] [] B P := by
  obtain ⟨n, hn⟩ : ∃ n : Int, n = l.length := ⟨_, rfl⟩
  have o1 := o.1
  rw [← hn] at o1 h1 h2
  refine rh1.of (rX32_save_113 hm _ _ _ _ ?_)
  rw [hN, h52, h53, o1]
  refine ⟨hx, hx, ⟨by omega, by omega⟩, fun z => by omega, fun _ => ⟨fun c => ⟨fun _ => ⟨by omega, by omega⟩, fun _ _ => ⟨by omega, by omega⟩, fun z => h1 ?_, fun z => ?_⟩, fun c => h1 ?_⟩⟩
  · unfold Rmo
    intro q
    rcases z with z | z
    · omega
    · rcases z.2 with y | y
      · have := q.2.1 z.1; omega
      · omega
  · have q1 : ¬ (40000 < p + n + 5) := fun y => by
      by_cases k : kd = 1
      · exact z (.inr ⟨k, .inr y⟩)
      · exact z (.inl ⟨k, y⟩)
    have q2 : kd = 1 → n ≤ 6000 := fun k => Classical.byContradiction (fun y => z (.inr ⟨k, .inl (by omega)⟩))
    have rm : Rmo m p kd n := ⟨by omega, q2, by omega⟩
    refine ⟨⟨by omega, by omega⟩, ⟨by omega, by omega⟩, fun M3 e3 => ?_⟩
    have e4 : M3 0 177 = n := by rw [e3, rh_set_a (by decide), rh_set_a (by decide)]; exact o1
    rw [e4]
    refine ⟨⟨by omega, by omega⟩, fun M4 e5 => ?_⟩
    have e6 : M4 0 177 = n := by rw [e5, rh_set_a (by decide)]; exact e4
    rw [e6]
    refine ⟨⟨by omega, by omega⟩, ?_⟩
    rw [e5, e3]
    exact h2 rm
  · unfold Rmo
    omega
/-- the model's line for a page -/
theorem m_page (hm : rh_ms wm) {B : rhM} {x : Int} {N : Nat} (hx : 0 ≤ x ∧ x < 8) (hN : B 4 x * B 5 x = N) (hN2 : N ≤ 6144) : ∃ B', (∀ P : Int → rhM → Prop, rh1 wm YX32_save 4 113 [(0, 2, 0), (1, 0, 0), (2, 0, x), (3, 0, (N : Int))] [] B' P → rh1 wm YX32_save 4 113 [(0, 2, 0), (1, 0, 0), (2, 0, x), (3, 0, 0)] [] (apg 140 177 (apg 140 177 (rh_set B 0 177 0) (B 4 x)) (B 5 x)) P) ∧ Mox B' ([B 4 x] ++ [B 5 x] ++ grl B x N) ∧ frx Fptx B B' := by
  have o0 : Mox (rh_set B 0 177 0) [] := ⟨rh_set_s _ _ _ _, fun k k0 => absurd k0 (Nat.not_lt_zero _)⟩
  have o1 := o0.ad (B 4 x)
  have o2 := o1.ad (B 5 x)
  rw [List.nil_append] at o2
  have f0 : frx Fptx B (apg 140 177 (apg 140 177 (rh_set B 0 177 0) (B 4 x)) (B 5 x)) := ((frx.rf.st (by unfold Fptx; omega)).tr apg_f).tr apg_f
  have key : ∀ (u k : Nat) (X : rhM), k + u = N → Mox X ([B 4 x] ++ [B 5 x] ++ grl B x k) → frx Fptx B X → ∃ X', (∀ P : Int → rhM → Prop, rh1 wm YX32_save 4 113 [(0, 2, 0), (1, 0, 0), (2, 0, x), (3, 0, (N : Int))] [] X' P → rh1 wm YX32_save 4 113 [(0, 2, 0), (1, 0, 0), (2, 0, x), (3, 0, (k : Int))] [] X P) ∧ Mox X' ([B 4 x] ++ [B 5 x] ++ grl B x N) ∧ frx Fptx B X' := by
    intro u
    induction u with
    | zero =>
      intro k X hk o f
      have e : k = N := by omega
      subst e
      exact ⟨X, fun P K => K, o, f⟩
    | succ u ih =>
      intro k X hk o f
      have g1 : X 4 x * X 5 x = N := by rw [f _ _ (by unfold Fptx; omega), f _ _ (by unfold Fptx; omega)]; exact hN
      have g3 : X 3 (6144 * x + k) = B 3 (6144 * x + k) := f _ _ (by unfold Fptx; omega)
      have ll : ([B 4 x] ++ [B 5 x] ++ grl B x k).length = 2 + k := by
        rw [List.length_append, List.length_append, grl_l]
        rfl
      have o' := o.ad (B 3 (6144 * x + k))
      have ob := apg_ob (c := B 3 (6144 * x + k)) o.1 ⟨by omega, by rw [ll]; omega⟩
      rw [List.append_assoc] at o'
      obtain ⟨X', E', o'', f''⟩ := ih (k + 1) _ (by omega) o' (f.tr apg_f)
      refine ⟨X', fun P K => ?_, o'', f''⟩
      refine rh1.of (rX32_save_113 hm _ _ _ _ ?_)
      rw [g1, g3]
      exact ⟨hx, hx, ⟨by omega, by omega⟩, fun _ => ⟨⟨by omega, by omega⟩, ob.1, ob.2, ⟨by omega, by omega⟩, E' P K⟩, fun z => by omega⟩
  exact key N 0 _ (by omega) (by simp only [grl]; rw [List.append_nil]; exact o2) f0
/-- the model's line for a face -/
theorem m_face (hm : rh_ms wm) {B : rhM} {face : Int} {N : Nat} (hN : B 0 89 = N) (hN2 : N ≤ 150) : ∃ B', eC wm YX32_rowOfFace 1 [(2, 0), (0, face)] B 0 B' ∧ Mox B' (fcl B face N) ∧ frx Fptx B B' := by
  have o0 : Mox (rh_set B 0 177 0) [] := ⟨rh_set_s _ _ _ _, fun k k0 => absurd k0 (Nat.not_lt_zero _)⟩
  have f0 : frx Fptx B (rh_set B 0 177 0) := frx.rf.st (by unfold Fptx; omega)
  have key : ∀ (u j : Nat) (X : rhM), j + u = N → Mox X (fcl B face j) → frx Fptx B X → ∃ X', (∀ P : Int → rhM → Prop, P 0 X' → rh1 wm YX32_rowOfFace 1 7 [(0, 2, 0), (1, 0, face), (2, 0, (j : Int))] [] X P) ∧ Mox X' (fcl B face N) ∧ frx Fptx B X' := by
    intro u
    induction u with
    | zero =>
      intro j X hj o f
      have e : j = N := by omega
      subst e
      have g : X 0 89 = j := by rw [f _ _ (by unfold Fptx; omega)]; exact hN
      refine ⟨X, fun P K => ?_, o, f⟩
      refine rh1.of (rX32_rowOfFace_7 hm _ _ _ ?_)
      rw [g]
      exact ⟨fun z => by omega, fun _ => K⟩
    | succ u ih =>
      intro j X hj o f
      have g : X 0 89 = N := by rw [f _ _ (by unfold Fptx; omega)]; exact hN
      have g63 : X 63 j = B 63 j := f _ _ (by unfold Fptx; omega)
      have g64 : X 64 j = B 64 j := f _ _ (by unfold Fptx; omega)
      have fl := fcl_l (M := B) (face := face) j
      have cb := ctp_b (fun i => B 63 i = face) j
      have ll : (fcl B face j).length ≤ 3000 := by omega
      by_cases h : B 63 j = face
      · have o1 := o.ad (B 64 j)
        have ob := apg_ob (c := B 64 j) o.1 ⟨by omega, by omega⟩
        have k2 : ∀ (v k : Nat) (Z : rhM), k + v = 19 → Mox Z (fcl B face j ++ [B 64 j] ++ ftl B j k) → frx Fptx B Z → ∃ Z', (∀ P : Int → rhM → Prop, rh1 wm YX32_rowOfFace 1 7 [(0, 2, 0), (1, 0, face), (2, 0, (j : Int) + 1)] [] Z' P → rh1 wm YX32_rowOfFace 1 37 [(0, 2, 0), (1, 0, face), (2, 0, (j : Int)), (3, 0, (k : Int))] [] Z P) ∧ Mox Z' (fcl B face j ++ [B 64 j] ++ ftl B j 19) ∧ frx Fptx B Z' := by
          intro v
          induction v with
          | zero =>
            intro k Z hk oz fz
            have e : k = 19 := by omega
            subst e
            refine ⟨Z, fun P K => ?_, oz, fz⟩
            refine rh1.of (rX32_rowOfFace_37 hm _ _ _ _ ?_)
            exact ⟨fun z => by omega, fun _ => ⟨⟨by omega, by omega⟩, K⟩⟩
          | succ v iv =>
            intro k Z hk oz fz
            have g68 : Z 68 (19 * j + k) = B 68 (19 * j + k) := fz _ _ (by unfold Fptx; omega)
            have lz : (fcl B face j ++ [B 64 j] ++ ftl B j k).length ≤ 3020 := by
              rw [List.length_append, List.length_append, ftl_l, List.length_singleton]
              omega
            have o' := oz.ad (B 68 (19 * j + k))
            have ob' := apg_ob (c := B 68 (19 * j + k)) oz.1 ⟨by omega, by omega⟩
            rw [List.append_assoc] at o'
            obtain ⟨Z', E', o'', f''⟩ := iv (k + 1) _ (by omega) o' (fz.tr apg_f)
            refine ⟨Z', fun P K => ?_, o'', f''⟩
            refine rh1.of (rX32_rowOfFace_37 hm _ _ _ _ ?_)
            rw [g68]
            exact ⟨fun _ => ⟨⟨by omega, by omega⟩, ob'.1, ob'.2, ⟨by omega, by omega⟩, E' P K⟩, fun z => by omega⟩
        obtain ⟨Z', EZ, oZ, fZ⟩ := k2 19 0 _ (by omega) (by simp only [ftl]; rw [List.append_nil]; exact o1) (f.tr apg_f)
        have e : fcl B face (j + 1) = fcl B face j ++ [B 64 j] ++ ftl B j 19 := by
          simp only [fcl]
          rw [rh_if_t h, List.append_assoc]
        rw [← e] at oZ
        obtain ⟨X', E', o'', f''⟩ := ih (j + 1) Z' (by omega) oZ fZ
        refine ⟨X', fun P K => ?_, o'', f''⟩
        refine rh1.of (rX32_rowOfFace_7 hm _ _ _ ?_)
        rw [g, g63, g64]
        exact ⟨fun _ => ⟨⟨by omega, by omega⟩, fun _ => ⟨⟨by omega, by omega⟩, ob.1, ob.2, EZ P (E' P K)⟩, fun z => absurd h z⟩, fun z => by omega⟩
      · have e : fcl B face (j + 1) = fcl B face j := by
          simp only [fcl]
          rw [rh_if_f h, List.append_nil]
        rw [← e] at o
        obtain ⟨X', E', o'', f''⟩ := ih (j + 1) X (by omega) o f
        refine ⟨X', fun P K => ?_, o'', f''⟩
        refine rh1.of (rX32_rowOfFace_7 hm _ _ _ ?_)
        rw [g, g63]
        exact ⟨fun _ => ⟨⟨by omega, by omega⟩, fun z => absurd z h, fun _ => ⟨⟨by omega, by omega⟩, E' P K⟩⟩, fun z => by omega⟩
  obtain ⟨B', E, o, f⟩ := key N 0 _ (by omega) o0 f0
  refine ⟨B', eC.of1 (rC1.of (by decide) (LE0 rfl) ?_), o, f⟩
  refine rh1.of (rX32_rowOfFace_0 hm _ _ ?_)
  exact E _ ⟨rfl, rfl⟩
end SaveO
