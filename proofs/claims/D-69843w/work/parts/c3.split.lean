/-! ===== LAYER 2: the tape's words: findGiven, splitTape ===== -/
section Split
variable {wh wm : rhW}
theorem eG.of {w : rhW} {Y : rhY} {h pc pc' : Nat} {L L' : rhL} {S S' : List rhA} {M M' : rhM} (H : rhLf w Y h pc L S M (fun p l s m => eG w Y h p l s m pc' L' S' M') (fun _ _ => False)) : eG w Y h pc L S M pc' L' S' M' := by
  rcases H with ⟨p, l, s, m, a, c⟩ | ⟨r, M1, a, c⟩
  · exact fun n Q K => c n Q (a n Q K)
  · exact a.elim
theorem eG.tr {w : rhW} {Y : rhY} {h pc pc' pc'' : Nat} {L L' L'' : rhL} {S S' S'' : List rhA} {M M' M'' : rhM} (h1 : eG w Y h pc L S M pc' L' S' M') (h2 : eG w Y h pc' L' S' M' pc'' L'' S'' M'') : eG w Y h pc L S M pc'' L'' S'' M'' := fun n Q K => h1 n Q (h2 n Q K)
theorem eG.rf {w : rhW} {Y : rhY} {h pc : Nat} {L : rhL} {S : List rhA} {M : rhM} : eG w Y h pc L S M pc L S M := fun _ _ K => K
/-- words of the tape on both sides -/
def Wsp (A B : rhM) (v : Int → Int) (k i : Int) : Prop := A 239 i = B 70 i ∧ A 240 i = B 71 i ∧ (1 ≤ B 71 i ∧ B 71 i ≤ 12) ∧ 0 ≤ B 70 i ∧ B 70 i + B 71 i ≤ k ∧ ∀ t, 0 ≤ t → t < B 71 i → 33 ≤ v (B 70 i + t) ∧ v (B 70 i + t) ≤ 126
def Spl (A B : rhM) (v : Int → Int) (n : Int) : Prop := A 0 27 = B 0 99 ∧ (0 ≤ B 0 99 ∧ B 0 99 ≤ 80) ∧ ∀ i, 0 ≤ i → i < B 0 99 → Wsp A B v n i
def Sgi (A B : rhM) (v : Int → Int) (k b g : Int) : Prop := A 0 27 = g ∧ (0 ≤ g ∧ g ≤ 80) ∧ (0 ≤ b ∧ b ≤ k ∧ k - b ≤ 12) ∧ (b < k → g < 80) ∧ (B 0 99 = rh_if (b < k) (g + 1) g) ∧ (b < k → B 70 g = b ∧ B 71 g = k - b) ∧ (∀ t, b ≤ t → t < k → 33 ≤ v t ∧ v t ≤ 126) ∧ ∀ i, 0 ≤ i → i < g → Wsp A B v k i
def Fsp (c j : Int) : Prop := (c = 0 ∧ j = 27) ∨ (c = 1 ∧ j = 3) ∨ (c = 3 ∧ j = 6) ∨ c = 239 ∨ c = 240
def Gsp (c j : Int) : Prop := (c = 0 ∧ j = 99) ∨ c = 70 ∨ c = 71
theorem Wsp.fx {A B A' B' : rhM} {v : Int → Int} {k k' i : Int} (h : Wsp A B v k i) (hk : k ≤ k') (a1 : A' 239 i = A 239 i) (a2 : A' 240 i = A 240 i) (b1 : B' 70 i = B 70 i) (b2 : B' 71 i = B 71 i) : Wsp A' B' v k' i := by
  unfold Wsp at h ⊢
  rw [a1, a2, b1, b2]
  exact ⟨h.1, h.2.1, h.2.2.1, h.2.2.2.1, (by omega), h.2.2.2.2.2⟩
/-- a blank (or the end): the house -/
theorem h_blank (hh : rh_hs wh) {v : Int → Int} {n k b g : Int} (hk : 0 ≤ k ∧ k ≤ n) (hn : n ≤ 4096) (A B : rhM) (S : Sgi A B v k b g) (hb : rh_if (k < n) (A 2 k) 32 = 10 ∨ rh_if (k < n) (A 2 k) 32 = 32) : ∃ A', eG wh YX1_findGiven 2 17 [(0, 2, 0), (1, 0, n), (2, 0, b), (3, 0, k)] [] A 17 [(0, 2, 0), (1, 0, n), (2, 0, k + 1), (3, 0, k + 1)] [] A' ∧ frx Fsp A A' ∧ A' 0 27 = rh_if (b < k) (g + 1) g ∧ ∀ i, 0 ≤ i → i < rh_if (b < k) (g + 1) g → Wsp A' B v k i := by
  obtain ⟨s1, s2, s3, s4, s5, s6, s7, s8⟩ := S
  have st : ∀ {A'}, eG wh YX1_findGiven 2 107 [(0, 2, 0), (1, 0, n), (2, 0, b), (3, 0, k), (5, 0, 1)] [] A 17 [(0, 2, 0), (1, 0, n), (2, 0, k + 1), (3, 0, k + 1)] [] A' → eG wh YX1_findGiven 2 17 [(0, 2, 0), (1, 0, n), (2, 0, b), (3, 0, k)] [] A 17 [(0, 2, 0), (1, 0, n), (2, 0, k + 1), (3, 0, k + 1)] [] A' := fun E => by
    refine eG.of (rX1_findGiven_17 hh _ _ _ _ ?_)
    refine ⟨fun _ => ⟨fun _ => ⟨by omega, by omega⟩, ?_⟩, fun z => by omega⟩
    intro x hx
    rw [← hx] at hb
    intro y hy
    rw [rh_if_t hb] at hy
    refine ⟨fun z => by omega, fun _ => ?_⟩
    rw [hy]
    exact (vgX1_findGiven_104 hh (c_must hh (by decide) _) (LE0 rfl)).tr E
  by_cases q : b < k
  · have g80 := s4 q
    refine ⟨rh_set (rh_set (rh_set A 239 g b) 240 g (k - b)) 0 27 (g + 1), st ?_, ((frx.rf.st (by unfold Fsp; omega)).st (by unfold Fsp; omega)).st (by unfold Fsp; omega), by rw [rh_set_s, rh_if_t q], fun i i0 i1 => ?_⟩
    · refine eG.of (rX1_findGiven_107 hh _ _ _ _ _ ?_)
      rw [s1]
      refine ⟨fun _ => ⟨⟨by omega, by omega⟩, ?_⟩, fun z => absurd (show (1 : Int) ≠ 0 ∧ b < k from ⟨by decide, q⟩) z⟩
      intro M3 e3
      have e4 : M3 0 27 = g := by rw [e3, rh_set_a (by decide)]; exact s1
      rw [e4]
      refine ⟨⟨by omega, by omega⟩, ⟨by omega, by omega⟩, ?_⟩
      intro M4 e5
      have e6 : M4 0 27 = g := by rw [e5, rh_set_a (by decide)]; exact e4
      rw [e6]
      refine ⟨⟨by omega, by omega⟩, ?_⟩
      intro x hx
      rw [rh_if_t (by decide)] at hx
      rw [hx, e5, e3]
      exact ⟨⟨by omega, by omega⟩, ⟨by omega, by omega⟩, eG.rf⟩
    · rw [rh_if_t q] at i1
      by_cases e : i = g
      · obtain ⟨c1, c2⟩ := s6 q
        unfold Wsp
        rw [e, rh_set_a (by decide), rh_set_a (by decide), rh_set_s, rh_set_a (by decide), rh_set_s, c1, c2]
        exact ⟨rfl, rfl, ⟨by omega, by omega⟩, s3.1, (by omega), fun t t0 t1 => s7 (b + t) (by omega) (by omega)⟩
      · exact (s8 i i0 (by omega)).fx (Int.le_refl _) (by rw [rh_set_a (by decide), rh_set_a (by decide), rh_set_j e]) (by rw [rh_set_a (by decide), rh_set_j e, rh_set_a (by decide)]) rfl rfl
  · refine ⟨A, st ?_, frx.rf, by rw [rh_if_f q]; exact s1, fun i i0 i1 => by rw [rh_if_f q] at i1; exact s8 i i0 i1⟩
    refine eG.of (rX1_findGiven_107 hh _ _ _ _ _ ?_)
    refine ⟨fun z => absurd z.2 q, fun _ => ?_⟩
    intro x hx
    rw [rh_if_t (by decide)] at hx
    rw [hx]
    exact ⟨⟨by omega, by omega⟩, ⟨by omega, by omega⟩, eG.rf⟩
theorem s_loop (hh : rh_hs wh) (hm : rh_ms wm) {v : Int → Int} {n : Int} (hn : 0 ≤ n ∧ n ≤ 4096) (Mh Mm : rhM) (hvh : ∀ k : Int, 0 ≤ k → k < n → rh_and (Mh 2 k) 255 = v k ∧ (0 ≤ v k ∧ v k ≤ 255) ∧ -128 ≤ Mh 2 k ∧ Mh 2 k ≤ 127) (hm2 : Mm 0 2 = n) (hvm : ∀ k : Int, 0 ≤ k → k < n → Mm 1 k = v k) : ∀ (m : Nat) (k b g : Int) (A B : rhM), k + m = n → 0 ≤ k → Sgi A B v k b g → frx Fsp Mh A → frx Gsp Mm B →
    ∃ (o : Option Int) (r : Int) (A' B' : rhM), rx1 wh YX1_findGiven 2 17 [(0, 2, 0), (1, 0, n), (2, 0, b), (3, 0, k)] [] A (fun o' M' => o' = o ∧ M' = A') ∧ (∀ P : Int → rhM → Prop, P r B' → rh1 wm YX32_splitTape 1 10 [(0, 2, 0), (1, 0, 80), (2, 0, 12), (3, 0, k - b), (4, 0, k)] [] B P) ∧ frx Fsp Mh A' ∧ frx Gsp Mm B' ∧ ((o = none ∧ (0 ≤ r ∧ r < n) ∧ A' 3 6 = r) ∨ (o = some 0 ∧ r = -1 ∧ Spl A' B' v n)) := by
  intro m
  induction m with
  | zero =>
    intro k b g A B hk k0 S fA fB
    have e : k = n := (by omega)
    have e32 : rh_if (k < n) (A 2 k) 32 = 32 := rh_if_f (by omega)
    obtain ⟨A', E, f, a27, aw⟩ := h_blank hh ⟨k0, (by omega)⟩ hn.2 A B S (.inr e32)
    refine ⟨some 0, -1, A', B, rx1.g E ?_, fun P HP => ?_, fA.tr f, fB, .inr ⟨rfl, rfl, ?_⟩⟩
    · refine rx1.of (rX1_findGiven_17 hh _ _ _ _ ?_)
      exact ⟨fun z => by omega, fun _ => ⟨rfl, rfl⟩⟩
    · refine rh1.of (rX32_splitTape_10 hm _ _ _ _ _ ?_)
      rw [fB 0 2 (by unfold Gsp; omega), hm2]
      exact ⟨fun z => by omega, fun _ => HP⟩
    · obtain ⟨s1, s2, s3, s4, s5, s6, s7, s8⟩ := S
      rw [e] at aw a27 s5 s4
      refine ⟨by rw [a27, s5], ?_, fun i i0 i1 => aw i i0 (by rw [← s5]; exact i1)⟩
      rw [s5]
      by_cases q : b < n
      · have := s4 q; rw [rh_if_t q]; exact ⟨by omega, by omega⟩
      · rw [rh_if_f q]; exact ⟨by omega, by omega⟩
  | succ m ih =>
    intro k b g A B hk k0 S fA fB
    obtain ⟨y1, y2, y3⟩ := hvh k k0 (by omega)
    have eA : A 2 k = Mh 2 k := fA 2 k (by unfold Fsp; omega)
    have ec : rh_if (k < n) (A 2 k) 32 = Mh 2 k := by rw [rh_if_t (show k < n by omega)]; exact eA
    have em : B 1 k = v k := by rw [fB 1 k (by unfold Gsp; omega)]; exact hvm k k0 (by omega)
    have e02 : B 0 2 = n := by rw [fB 0 2 (by unfold Gsp; omega)]; exact hm2
    have vt : ∀ c : Int, 0 ≤ c → c ≤ 127 → (Mh 2 k = c ↔ v k = c) := fun c c0 c1 => by rw [← y1]; exact (by_p y3 ⟨c0, c1⟩).symm
    have by' := by_e y3
    rw [y1] at by'
    have vs : (33 ≤ Mh 2 k ∧ Mh 2 k ≤ 126) ↔ (33 ≤ v k ∧ v k ≤ 126) := by
      by_cases z : Mh 2 k < 0
      · rw [if_pos z] at by'; omega
      · rw [if_neg z] at by'; omega
    have S0 := S
    obtain ⟨s1, s2, s3, s4, s5, s6, s7, s8⟩ := S
    by_cases bl : v k = 10 ∨ v k = 32
    · obtain ⟨A1, E, f, a27, aw⟩ := h_blank hh ⟨k0, (by omega)⟩ hn.2 A B S0 (by
        rw [ec]
        rcases bl with z | z
        · exact .inl ((vt 10 (by omega) (by omega)).mpr z)
        · exact .inr ((vt 32 (by omega) (by omega)).mpr z))
      have gb : 0 ≤ rh_if (b < k) (g + 1) g ∧ rh_if (b < k) (g + 1) g ≤ 80 := by
        by_cases q : b < k
        · have := s4 q; rw [rh_if_t q]; exact ⟨by omega, by omega⟩
        · rw [rh_if_f q]; exact s2
      obtain ⟨o, r, A', B', E1, E2, rr⟩ := ih (k + 1) (k + 1) (rh_if (b < k) (g + 1) g) A1 B (by omega) (by omega) ⟨a27, gb, ⟨by omega, by omega⟩, fun z => by omega, by rw [rh_if_f (show ¬ (k + 1 < k + 1) by omega)]; exact s5, fun z => by omega, fun t t0 t1 => by omega, fun i i0 i1 => (aw i i0 i1).fx (by omega) rfl rfl rfl rfl⟩ (fA.tr f) fB
      refine ⟨o, r, A', B', rx1.g E E1, fun P HP => ?_, rr⟩
      have I := E2 P HP
      rw [show k + 1 - (k + 1) = 0 by omega] at I
      refine rh1.of (rX32_splitTape_10 hm _ _ _ _ _ ?_)
      rw [e02, em]
      exact ⟨fun _ => ⟨⟨by omega, by omega⟩, fun _ => ⟨⟨by omega, by omega⟩, I⟩, fun z => absurd bl z⟩, fun z => by omega⟩
    · have nb : ¬ (Mh 2 k = 10 ∨ Mh 2 k = 32) := fun z => bl (by
        rcases z with z | z
        · exact .inl ((vt 10 (by omega) (by omega)).mp z)
        · exact .inr ((vt 32 (by omega) (by omega)).mp z))
      by_cases ok : (33 ≤ v k ∧ v k ≤ 126) ∧ (k - b < 12 ∧ g < 80)
      · have E : eG wh YX1_findGiven 2 17 [(0, 2, 0), (1, 0, n), (2, 0, b), (3, 0, k)] [] A 17 [(0, 2, 0), (1, 0, n), (2, 0, b), (3, 0, k + 1)] [] A := by
          refine eG.of (rX1_findGiven_17 hh _ _ _ _ ?_)
          rw [ec, s1]
          refine ⟨fun _ => ⟨fun _ => ⟨by omega, by omega⟩, ?_⟩, fun z => by omega⟩
          intro x hx
          rw [hx]
          intro y hy
          rw [rh_if_f nb] at hy
          refine ⟨fun _ => ⟨fun _ => ⟨by omega, by omega⟩, ?_⟩, fun z => absurd hy z⟩
          rw [rh_if_t (show (33 ≤ Mh 2 k ∧ Mh 2 k ≤ 126) ∧ (k - b < 12 ∧ g < 80) from ⟨vs.mpr ok.1, ok.2⟩), hy]
          refine (vgX1_findGiven_104 hh (c_must hh (by decide) _) (LE0 rfl)).tr ?_
          refine eG.of (rX1_findGiven_107 hh _ _ _ _ _ ?_)
          refine ⟨fun z => absurd rfl z.1, fun _ => ?_⟩
          intro x' hx'
          rw [rh_if_f (fun z => z rfl)] at hx'
          rw [hx']
          exact ⟨⟨by omega, by omega⟩, ⟨by omega, by omega⟩, eG.rf⟩
        obtain ⟨B1, hB1⟩ : ∃ B1, B1 = rh_set (rh_if (b < k) B (rh_set (rh_set B 70 g k) 0 99 (g + 1))) 71 g (k - b + 1) := ⟨_, rfl⟩
        have fB1 : frx (fun c j => (c = 0 ∧ j = 99) ∨ ((c = 70 ∨ c = 71) ∧ j = g)) B B1 := by
          rw [hB1]
          by_cases q : b < k
          · rw [rh_if_t q]; exact frx.rf.st (by omega)
          · rw [rh_if_f q]; exact ((frx.rf.st (by omega)).st (by omega)).st (by omega)
        have b99 : B1 0 99 = g + 1 := by
          rw [hB1, rh_set_a (by decide)]
          by_cases q : b < k
          · rw [rh_if_t q, s5, rh_if_t q]
          · rw [rh_if_f q, rh_set_s]
        have b70 : B1 70 g = b := by
          rw [hB1, rh_set_a (by decide)]
          by_cases q : b < k
          · rw [rh_if_t q]; exact (s6 q).1
          · rw [rh_if_f q, rh_set_a (by decide), rh_set_s]; omega
        have b71 : B1 71 g = k - b + 1 := by rw [hB1]; exact rh_set_s _ _ _ _
        obtain ⟨o, r, A', B', E1, E2, rr⟩ := ih (k + 1) b g A B1 (by omega) (by omega) ⟨s1, s2, ⟨by omega, by omega⟩, fun _ => ok.2.2, by rw [b99, rh_if_t (by omega)], fun _ => ⟨b70, by rw [b71]; omega⟩, fun t t0 t1 => by
          by_cases e : t = k
          · rw [e]; exact ok.1
          · exact s7 t t0 (by omega), fun i i0 i1 => (s8 i i0 i1).fx (by omega) rfl rfl (fB1 70 i (by omega)) (fB1 71 i (by omega))⟩ fA (fB.tr (fB1.w (fun c j h => by unfold Gsp; omega)))
        refine ⟨o, r, A', B', rx1.g E E1, fun P HP => ?_, rr⟩
        have I := E2 P HP
        rw [show k + 1 - b = k - b + 1 by omega] at I
        refine rh1.of (rX32_splitTape_10 hm _ _ _ _ _ ?_)
        rw [e02, em]
        refine ⟨fun _ => ⟨⟨by omega, by omega⟩, fun z => absurd z bl, fun _ => ?_⟩, fun z => by omega⟩
        intro x hx
        by_cases q : b < k
        · rw [rh_if_f (show ¬ (k - b = 0) by omega)] at hx
          have e99 : B 0 99 = g + 1 := by rw [s5, rh_if_t q]
          rw [e99]
          refine ⟨⟨by omega, by omega⟩, fun _ => ⟨fun z => by omega, fun _ => ⟨fun z => absurd hx z, fun _ => ⟨⟨by omega, by omega⟩, ?_⟩⟩⟩, fun z => absurd ok.1 z⟩
          intro M3 e3
          rw [e3, e99, show g + 1 - 1 = g by omega]
          rw [hB1, rh_if_t q] at I
          exact ⟨⟨by omega, by omega⟩, ⟨by omega, by omega⟩, I⟩
        · rw [rh_if_t (show k - b = 0 by omega)] at hx
          have e99 : B 0 99 = g := by rw [s5, rh_if_f q]
          rw [e99]
          refine ⟨⟨by omega, by omega⟩, fun _ => ⟨fun z => by omega, fun _ => ⟨fun _ => ⟨⟨by omega, by omega⟩, ?_⟩, fun z => absurd (show x ≠ 0 by omega) z⟩⟩, fun z => absurd ok.1 z⟩
          intro M3 e3
          have e4 : M3 0 99 = g := by rw [e3, rh_set_a (by decide)]; exact e99
          rw [e4]
          refine ⟨⟨by omega, by omega⟩, ⟨by omega, by omega⟩, ?_⟩
          intro M4 e5
          have e6 : M4 0 99 = g + 1 := by rw [e5, rh_set_s]
          rw [e6, e5, e3, show g + 1 - 1 = g by omega]
          rw [hB1, rh_if_f q] at I
          exact ⟨⟨by omega, by omega⟩, ⟨by omega, by omega⟩, I⟩
      · refine ⟨none, k, rh_set A 3 6 k, B, ?_, fun P HP => ?_, fA.st (by unfold Fsp; omega), fB, .inl ⟨rfl, ⟨by omega, by omega⟩, rh_set_s _ _ _ _⟩⟩
        · refine rx1.of (rX1_findGiven_17 hh _ _ _ _ ?_)
          rw [ec, s1]
          refine ⟨fun _ => ⟨fun _ => ⟨by omega, by omega⟩, ?_⟩, fun z => by omega⟩
          intro x hx
          rw [hx]
          intro y hy
          rw [rh_if_f nb] at hy
          refine ⟨fun _ => ⟨fun _ => ⟨by omega, by omega⟩, ?_⟩, fun z => absurd hy z⟩
          rw [rh_if_f (show ¬ ((33 ≤ Mh 2 k ∧ Mh 2 k ≤ 126) ∧ (k - b < 12 ∧ g < 80)) from fun z => ok ⟨vs.mp z.1, z.2⟩)]
          exact rx1.t (vtX1_findGiven_104 hh (c_mustT hh _) (LE0 rfl)) ⟨rfl, rfl⟩
        · refine rh1.of (rX32_splitTape_10 hm _ _ _ _ _ ?_)
          rw [e02, em]
          refine ⟨fun _ => ⟨⟨by omega, by omega⟩, fun z => absurd z bl, fun _ => ?_⟩, fun z => by omega⟩
          intro x hx
          refine ⟨⟨by omega, by omega⟩, fun y => ⟨fun _ => HP, fun z => absurd ?_ z⟩, fun _ => HP⟩
          have no : ¬ (k - b < 12 ∧ g < 80) := fun z => ok ⟨y, z⟩
          by_cases q : b < k
          · rw [rh_if_f (show ¬ (k - b = 0) by omega)] at hx
            have := s4 q
            exact .inl ⟨hx, (by omega)⟩
          · rw [rh_if_t (show k - b = 0 by omega)] at hx
            rw [s5, rh_if_f q]
            exact .inr ⟨by omega, .inl (by omega)⟩
/-- both split the tape -/
theorem c_split (hh : rh_hs wh) (hm : rh_ms wm) {Mh Mm : rhM} (T : Rtp Mh Mm) :
    ∃ (o : Option Int) (r : Int) (A B : rhM), cO wh YX1_findGiven 2 [(2, 0)] Mh o A ∧ eC wm YX32_splitTape 1 [(2, 0), (0, 80), (0, 12)] Mm r B ∧ frx Fsp Mh A ∧ frx Gsp Mm B ∧ ((o = none ∧ (0 ≤ r ∧ r < Mm 0 2) ∧ A 3 6 = r) ∨ (o = some 0 ∧ r = -1 ∧ Spl A B (Mm 1) (Mm 0 2))) := by
  obtain ⟨t1, t2, t3, t4⟩ := T
  obtain ⟨o, r, A, B, E1, E2, fA, fB, rr⟩ := s_loop hh hm (v := Mm 1) (n := Mm 0 2) ⟨t2, t3⟩ Mh Mm t4 rfl (fun _ _ _ => rfl) (Mm 0 2).toNat 0 0 0 (rh_set (rh_set Mh 1 3 0) 0 27 0) (rh_set Mm 0 99 0) (by omega) (by omega) ⟨rh_set_s _ _ _ _, ⟨by omega, by omega⟩, ⟨by omega, by omega⟩, fun z => by omega, by rw [rh_set_s, rh_if_f (by omega)], fun z => by omega, fun t t0 t1 => by omega, fun i i0 i1 => by omega⟩ ((frx.rf.st (by unfold Fsp; omega)).st (by unfold Fsp; omega)) (frx.rf.st (by unfold Gsp; omega))
  have H : rCx wh YX1_findGiven 2 [(2, 0)] Mh (fun o' M' => o' = o ∧ M' = A) := rCx.of (by decide) (LE0 rfl) (by
    refine rx1.of (rX1_findGiven_0 hh _ ?_)
    rw [t1]
    exact E1)
  obtain ⟨o', A', Eo, rfl, rfl⟩ := H
  refine ⟨o', r, A', B, Eo, eC.of1 (rC1.of (by decide) (LE0 rfl) ?_), fA, fB, rr⟩
  refine rh1.of (rX32_splitTape_0 hm _ _ _ ?_)
  exact E2 _ ⟨rfl, rfl⟩
end Split
