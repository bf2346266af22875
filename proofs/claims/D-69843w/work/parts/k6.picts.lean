/-! ===== LAYER 2: pictures told by bytes: takeByte, readSize ===== -/
section PictS
variable {wh wm : rhW}
theorem rx2.kl {w w2 : rhW} {Y Y2 : rhY} {h pc pc' h2 pc2 : Nat} {L L' L2 : rhL} {S S' S2 : List rhA} {M M' M2 : rhM} {P : Option Int → rhM → Int → rhM → Prop} (K : ∀ Q : Option Int → rhM → Prop, rx1 w Y h pc' L' S' M' Q → rx1 w Y h pc L S M Q) (H : rx2 w Y h pc' L' S' M' w2 Y2 h2 pc2 L2 S2 M2 P) : rx2 w Y h pc L S M w2 Y2 h2 pc2 L2 S2 M2 P := by
  obtain ⟨o, M1, r2, M3, a, b, c⟩ := H
  obtain ⟨o', M4, a', rfl, rfl⟩ := K (fun o1 M5 => o1 = o ∧ M5 = M1) ⟨o, M1, a, rfl, rfl⟩
  exact ⟨o', M4, r2, M3, a', b, c⟩
theorem rx2.kt {w w2 : rhW} {Y Y2 : rhY} {h pc h2 pc2 : Nat} {L L2 : rhL} {S S2 : List rhA} {M M' M2 : rhM} {P : Option Int → rhM → Int → rhM → Prop} (K : ∀ Q : Option Int → rhM → Prop, Q none M' → rx1 w Y h pc L S M Q) (H : rh1 w2 Y2 h2 pc2 L2 S2 M2 (P none M')) : rx2 w Y h pc L S M w2 Y2 h2 pc2 L2 S2 M2 P := by
  obtain ⟨r2, M3, b, c⟩ := H
  obtain ⟨o', M4, a', rfl, rfl⟩ := K (fun o1 M5 => o1 = none ∧ M5 = M') ⟨rfl, rfl⟩
  exact ⟨none, M4, r2, M3, a', b, c⟩
theorem rx2.kr {w w2 : rhW} {Y Y2 : rhY} {h pc h2 pc2 pc3 : Nat} {L L2 L3 : rhL} {S S2 S3 : List rhA} {M M2 M3 : rhM} {P : Option Int → rhM → Int → rhM → Prop} (K : ∀ Q : Int → rhM → Prop, rh1 w2 Y2 h2 pc3 L3 S3 M3 Q → rh1 w2 Y2 h2 pc2 L2 S2 M2 Q) (H : rx2 w Y h pc L S M w2 Y2 h2 pc3 L3 S3 M3 P) : rx2 w Y h pc L S M w2 Y2 h2 pc2 L2 S2 M2 P := by
  obtain ⟨o, M1, r2, M4, a, b, c⟩ := H
  obtain ⟨r3, M5, b', rfl, rfl⟩ := K (fun r M => r = r2 ∧ M = M4) ⟨r2, M4, b, rfl, rfl⟩
  exact ⟨o, M1, r3, M5, a, b', c⟩
theorem c_tb (hm : rh_ms wm) {v : Int → Int} {N k : Int} {A B : rhM} (T : Tq v N A B) (hB : B 0 10 = k) (k0 : 0 ≤ k) (k1 : k < N) : eC wm YX32_takeByte 0 [(2, 0)] B (v k) (rh_set B 0 10 (k + 1)) := by
  have t2 := T.1.2.1
  have t4 := T.1.2.2.2
  refine eC.of1 (rC1.of (by decide) (LE0 rfl) ?_)
  refine rh1.of (rX32_takeByte_0 hm _ ?_)
  rw [hB, t2]
  refine ⟨fun z => by omega, fun _ => ⟨⟨by omega, by omega⟩, fun M3 e3 => ?_⟩⟩
  have e4 : M3 0 10 - 1 = k := by rw [e3, rh_set_s]; omega
  rw [e4]
  refine ⟨⟨by omega, by omega⟩, ?_, e3⟩
  rw [e3, rh_set_a (by decide), (T.2 k k0 k1).2.1]
theorem c_tbN (hm : rh_ms wm) {N : Int} {B : rhM} (hN : B 0 2 = N) (h : N ≤ B 0 10) (hw : B 0 11 = -1) : eC wm YX32_takeByte 0 [(2, 0)] B 0 (rh_set B 0 11 N) := by
  refine eC.of1 (rC1.of (by decide) (LE0 rfl) ?_)
  refine rh1.of (rX32_takeByte_0 hm _ ?_)
  rw [hN]
  refine ⟨fun _ x ex => ?_, fun z => absurd h z⟩
  rw [hw, rh_if_t rfl] at ex
  rw [ex]
  exact ⟨rfl, rfl⟩
theorem m_byteF (hm : rh_ms wm) {p rn w h y : Int} {B : rhM} (hq : ¬ B 0 11 = -1) (P : Int → rhM → Prop) (hP : P 0 B) : rh1 wm YX32_bytePicture 2 73 [(0, 2, 0), (1, 0, p), (2, 0, rn), (3, 0, w), (4, 0, h), (5, 0, y)] [] B P := by
  refine rh1.of (rX32_bytePicture_73 hm _ _ _ _ _ _ ?_)
  refine ⟨fun z => absurd z.2 hq, fun _ => ⟨fun z => absurd z.1 hq, fun _ M3 e3 => ?_⟩⟩
  subst e3
  exact ⟨fun z => absurd z hq, fun _ => hP⟩
/-- the model reads a size: no byte; a bad width; one byte alone; a bad size; a good one -/
theorem m_sz0 (hm : rh_ms wm) {p rn N : Int} {B : rhM} (hN : B 0 2 = N) (n0 : N ≤ B 0 10) (nn : 0 ≤ N) (hw : B 0 11 = -1) (P : Int → rhM → Prop) (hP : P 0 (rh_set B 0 11 N)) : rh1 wm YX32_bytePicture 2 0 [(0, 2, 0), (1, 0, p), (2, 0, rn)] [] B P := by
  have hq : ¬ rh_set B 0 11 N 0 11 = -1 := by rw [rh_set_s]; omega
  refine rh1.of (rX32_bytePicture_0 hm _ _ _ ?_)
  refine rh1.s (vX32_bytePicture_1 hm (c_tbN hm hN n0 hw) (LE0 rfl)) ?_
  refine rh1.of (rX32_bytePicture_4 hm _ _ _ _ ?_)
  exact ⟨fun z => absurd z.1 hq, fun _ => ⟨fun z => absurd z hq, fun _ => ⟨fun z => absurd z hq, fun z => absurd z.1 hq, fun _ => m_byteF hm hq P hP⟩⟩⟩
theorem m_sz1 (hm : rh_ms wm) {v : Int → Int} {p rn N : Int} {A B : rhM} (T : Tq v N A B) (hB : B 0 10 = 0) (n1 : 0 < N) (hw : B 0 11 = -1) (bad : ¬ (1 ≤ v 0 ∧ v 0 ≤ 128)) (P : Int → rhM → Prop) (hP : P 0 (rh_set (rh_set B 0 10 1) 0 11 0)) : rh1 wm YX32_bytePicture 2 0 [(0, 2, 0), (1, 0, p), (2, 0, rn)] [] B P := by
  have hw2 : rh_set B 0 10 (0 + 1) 0 11 = -1 := by rw [rh_set_j (by decide)]; exact hw
  have hq : ¬ rh_set (rh_set B 0 10 (0 + 1)) 0 11 0 0 11 = -1 := by rw [rh_set_s]; omega
  refine rh1.of (rX32_bytePicture_0 hm _ _ _ ?_)
  refine rh1.s (vX32_bytePicture_1 hm (c_tb hm T hB (by decide) n1) (LE0 rfl)) ?_
  refine rh1.of (rX32_bytePicture_4 hm _ _ _ _ ?_)
  exact ⟨fun _ => ⟨fun z => absurd z hq, fun _ => ⟨fun z => absurd z hq, fun z => absurd z.1 hq, fun _ => m_byteF hm hq P hP⟩⟩, fun z => absurd ⟨hw2, bad⟩ z⟩
theorem m_sz2 (hm : rh_ms wm) {v : Int → Int} {p rn N : Int} {A B : rhM} (T : Tq v N A B) (hB : B 0 10 = 0) (n1 : 0 < N) (hw : B 0 11 = -1) (ok : 1 ≤ v 0 ∧ v 0 ≤ 128) (P : Int → rhM → Prop) (H : rh1 wm YX32_bytePicture 2 39 [(0, 2, 0), (1, 0, p), (2, 0, rn), (3, 0, v 0)] [(2, 0)] (rh_set B 0 10 1) P) : rh1 wm YX32_bytePicture 2 0 [(0, 2, 0), (1, 0, p), (2, 0, rn)] [] B P := by
  have hw2 : rh_set B 0 10 (0 + 1) 0 11 = -1 := by rw [rh_set_j (by decide)]; exact hw
  refine rh1.of (rX32_bytePicture_0 hm _ _ _ ?_)
  refine rh1.s (vX32_bytePicture_1 hm (c_tb hm T hB (by decide) n1) (LE0 rfl)) ?_
  refine rh1.of (rX32_bytePicture_4 hm _ _ _ _ ?_)
  exact ⟨fun z => absurd ok z.2, fun _ => ⟨fun _ => H, fun z => absurd hw2 z⟩⟩
theorem m_sz3 (hm : rh_ms wm) {w p rn N : Int} {B : rhM} (hN : B 0 2 = N) (n0 : N ≤ B 0 10) (nn : 0 ≤ N) (hw : B 0 11 = -1) (P : Int → rhM → Prop) (hP : P 0 (rh_set B 0 11 N)) : rh1 wm YX32_bytePicture 2 39 [(0, 2, 0), (1, 0, p), (2, 0, rn), (3, 0, w)] [(2, 0)] B P := by
  have hq : ¬ rh_set B 0 11 N 0 11 = -1 := by rw [rh_set_s]; omega
  refine rh1.s (vX32_bytePicture_39 hm (c_tbN hm hN n0 hw) (LE0 rfl)) ?_
  refine rh1.of (rX32_bytePicture_42 hm _ _ _ _ _ ?_)
  exact ⟨fun z => absurd z hq, fun z => absurd z.1 hq, fun _ => m_byteF hm hq P hP⟩
abbrev Szo (w h : Int) : Prop := ((1 ≤ w) ∧ (w ≤ 128)) ∧ (((1 ≤ h) ∧ (h ≤ 96)) ∧ ((w * h) ≤ 6144))
theorem Szo.m {w h : Int} (h1 : (1 ≤ w) ∧ (w ≤ 128)) (h2 : (1 ≤ h) ∧ (h ≤ 96)) : 0 ≤ w * h ∧ w * h ≤ 12288 := by
  have m0 : 0 ≤ w * h := mul_nn (by omega) (by omega)
  have m1 : w * h ≤ 128 * 96 := Int.mul_le_mul (by omega) (by omega) (by omega) (by decide)
  omega
theorem m_sz4 (hm : rh_ms wm) {v : Int → Int} {w p rn N : Int} {A B : rhM} (T : Tq v N A B) (hB : B 0 10 = 1) (n1 : 1 < N) (hw : B 0 11 = -1) (P : Int → rhM → Prop) (h1 : ¬ Szo w (v 1) → P 0 (rh_set (rh_set B 0 10 2) 0 11 1)) (h2 : Szo w (v 1) → rh1 wm YX32_bytePicture 2 73 [(0, 2, 0), (1, 0, p), (2, 0, rn), (3, 0, w), (4, 0, v 1), (5, 0, 0)] [] (rh_set B 0 10 2) P) : rh1 wm YX32_bytePicture 2 39 [(0, 2, 0), (1, 0, p), (2, 0, rn), (3, 0, w)] [(2, 0)] B P := by
  have hw2 : rh_set B 0 10 (1 + 1) 0 11 = -1 := by rw [rh_set_j (by decide)]; exact hw
  have hq : ¬ rh_set (rh_set B 0 10 (1 + 1)) 0 11 1 0 11 = -1 := by rw [rh_set_s]; omega
  refine rh1.s (vX32_bytePicture_39 hm (c_tb hm T hB (by decide) n1) (LE0 rfl)) ?_
  refine rh1.of (rX32_bytePicture_42 hm _ _ _ _ _ ?_)
  refine ⟨fun _ a b => ?_, fun z => m_byteF hm hq P (h1 z.2), fun z => h2 (Classical.not_not.mp (fun q => z ⟨hw2, q⟩))⟩
  have := Szo.m a b
  exact ⟨by omega, by omega⟩
theorem t_sizeb (hh : rh_hs wh) (hm : rh_ms wm) {v : Int → Int} {N p rn : Int} {A B : rhM} (T : Tq v N A B) (hA : A 1 3 = 0) (hB : B 0 10 = 0) (hw : B 0 11 = -1) : (∃ (q : Int) (A' B' : rhM), tC wh YX12_readSize 2 [(2, 23), (2, 8)] A A' ∧ A' 3 6 = q ∧ B' 0 11 = q ∧ (0 ≤ q ∧ q ≤ 4096) ∧ frx Fpc A A' ∧ frx Gpk B B' ∧ ∀ P : Int → rhM → Prop, P 0 B' → rh1 wm YX32_bytePicture 2 0 [(0, 2, 0), (1, 0, p), (2, 0, rn)] [] B P) ∨ ∃ w h : Int, Szo w h ∧ 2 ≤ N ∧ eC wh YX12_readSize 2 [(2, 23), (2, 8)] A 0 (rh_set (rh_set (rh_set A 1 3 2) 8 1 w) 8 2 h) ∧ ∀ P : Int → rhM → Prop, rh1 wm YX32_bytePicture 2 73 [(0, 2, 0), (1, 0, p), (2, 0, rn), (3, 0, w), (4, 0, h), (5, 0, 0)] [] (rh_set B 0 10 2) P → rh1 wm YX32_bytePicture 2 0 [(0, 2, 0), (1, 0, p), (2, 0, rn)] [] B P := by
  have bl := hs_sh hh
  have t1 := T.1.1
  have t2 := T.1.2.1
  have t3 := T.1.2.2.1
  have t4 := T.1.2.2.2
  by_cases n0 : N = 0
  · refine .inl ⟨0, rh_set A 3 6 0, rh_set B 0 11 0, tC.of1 (rCx.of (by decide) (LE0 rfl) ?_), rh_set_s _ _ _ _, rh_set_s _ _ _ _, ⟨by omega, by omega⟩, frx.rf.st (by unfold Fpc; omega), frx.rf.st (by unfold Gpk; omega), fun P hP => ?_⟩
    · have K := c_nextT hh A (by rw [hA, t1, n0])
      rw [hA] at K
      refine rx1.of (rX12_readSizeb_0 hh _ _ bl ?_)
      exact rx1.t (vtX12_readSize_4 hh K (LE0 rfl)) ⟨rfl, rfl⟩
    · exact m_sz0 hm (t2.trans n0) (by omega) (by decide) hw P hP
  have K1 := c_next hh (k := 0) (n := N) A hA t1 ⟨by omega, by omega⟩ t4
  rw [(T.2 0 (by decide) (by omega)).1, show (0 : Int) + 1 = 1 from rfl] at K1
  by_cases ok : 1 ≤ v 0 ∧ v 0 ≤ 128
  case neg =>
    refine .inl ⟨0, rh_set (rh_set A 1 3 1) 3 6 0, rh_set (rh_set B 0 10 1) 0 11 0, tC.of1 (rCx.of (by decide) (LE0 rfl) ?_), rh_set_s _ _ _ _, rh_set_s _ _ _ _, ⟨by omega, by omega⟩, (frx.rf.st (by unfold Fpc; omega)).st (by unfold Fpc; omega), (frx.rf.st (by unfold Gpk; omega)).st (by unfold Gpk; omega), fun P hP => m_sz1 hm T hB (by omega) hw ok P hP⟩
    refine rx1.of (rX12_readSizeb_0 hh _ _ bl ?_)
    refine rx1.g (vgX12_readSize_4 hh K1 (LE0 rfl)) ?_
    refine rx1.of (rX12_readSizeb_7 hh _ _ _ bl ?_)
    rw [rh_if_f ok]
    exact rx1.t (vtX12_readSize_22 hh (c_mustT hh _) (LE0 rfl)) ⟨rfl, rfl⟩
  have T2 : Tq v N (rh_set A 1 3 1) (rh_set B 0 10 1) := T.fx (rh_set_j (by decide)) (rh_set_n (by decide)) (rh_set_j (by decide)) (rh_set_n (by decide))
  have hw2 : rh_set B 0 10 1 0 11 = -1 := by rw [rh_set_j (by decide)]; exact hw
  have ST : ∀ P : Option Int → rhM → Prop, rx1 wh YX12_readSize 2 29 [(0, 2, 23), (1, 2, 8), (2, 0, v 0)] [(2, 1)] (rh_set A 1 3 1) P → rx1 wh YX12_readSize 2 0 (rh_lo 0 [(2, 23), (2, 8)]) [] A P := fun P H => by
    refine rx1.of (rX12_readSizeb_0 hh _ _ bl ?_)
    refine rx1.g (vgX12_readSize_4 hh K1 (LE0 rfl)) ?_
    refine rx1.of (rX12_readSizeb_7 hh _ _ _ bl ?_)
    rw [rh_if_t ok]
    refine rx1.g (vgX12_readSize_22 hh (c_must hh (by decide) _) (LE0 rfl)) ?_
    refine rx1.of (rX12_readSizeb_25 hh _ _ _ bl ?_)
    exact H
  by_cases n1 : N = 1
  · refine .inl ⟨1, rh_set (rh_set A 1 3 1) 3 6 1, rh_set (rh_set B 0 10 1) 0 11 1, tC.of1 (rCx.of (by decide) (LE0 rfl) (ST _ ?_)), rh_set_s _ _ _ _, rh_set_s _ _ _ _, ⟨by omega, by omega⟩, (frx.rf.st (by unfold Fpc; omega)).st (by unfold Fpc; omega), (frx.rf.st (by unfold Gpk; omega)).st (by unfold Gpk; omega), fun P hP => ?_⟩
    · have K := c_nextT hh (rh_set A 1 3 1) (by rw [T2.1.1, rh_set_s, n1])
      rw [rh_set_s] at K
      exact rx1.t (vtX12_readSize_29 hh K (LE0 rfl)) ⟨rfl, rfl⟩
    · exact m_sz2 hm T hB (by omega) hw ok P (m_sz3 hm (T2.1.2.1.trans n1) (by rw [rh_set_s]; omega) (by decide) hw2 P hP)
  have K2 := c_next hh (k := 1) (n := N) (rh_set A 1 3 1) (rh_set_s _ _ _ _) T2.1.1 ⟨by omega, by omega⟩ t4
  rw [(T2.2 1 (by decide) (by omega)).1, show (1 : Int) + 1 = 2 from rfl, set_tt] at K2
  by_cases sz : Szo (v 0) (v 1)
  · refine .inr ⟨v 0, v 1, sz, (by omega), eC.of1 ?_, fun P HP => m_sz2 hm T hB (by omega) hw ok P (m_sz4 hm T2 (rh_set_s _ _ _ _) (by omega) hw2 P (fun z => absurd sz z) (fun _ => by rw [set_tt]; exact HP))⟩
    have H : rCx wh YX12_readSize 2 [(2, 23), (2, 8)] A (fun o M' => o = some 0 ∧ M' = rh_set (rh_set (rh_set A 1 3 2) 8 1 (v 0)) 8 2 (v 1)) := by
      refine rCx.of (by decide) (LE0 rfl) (ST _ ?_)
      refine rx1.g (vgX12_readSize_29 hh K2 (LE0 rfl)) ?_
      refine rx1.of (rX12_readSizeb_32 hh _ _ _ _ bl ?_)
      refine ⟨fun a b => ?_, ?_⟩
      · have := Szo.m a b
        exact ⟨by omega, by omega⟩
      rw [rh_if_t sz]
      refine rx1.g (vgX12_readSize_43 hh (c_must hh (by decide) _) (LE0 rfl)) ?_
      refine rx1.of (rX12_readSizeb_46 hh _ _ _ _ bl ?_)
      exact ⟨rfl, rfl⟩
    obtain ⟨o, M', q, rfl, rfl⟩ := H
    exact ⟨0, _, q, rfl, rfl⟩
  · refine .inl ⟨1, rh_set (rh_set A 1 3 2) 3 6 1, rh_set (rh_set B 0 10 2) 0 11 1, tC.of1 (rCx.of (by decide) (LE0 rfl) (ST _ ?_)), rh_set_s _ _ _ _, rh_set_s _ _ _ _, ⟨by omega, by omega⟩, (frx.rf.st (by unfold Fpc; omega)).st (by unfold Fpc; omega), (frx.rf.st (by unfold Gpk; omega)).st (by unfold Gpk; omega), fun P hP => m_sz2 hm T hB (by omega) hw ok P (m_sz4 hm T2 (rh_set_s _ _ _ _) (by omega) hw2 P (fun _ => by rw [set_tt]; exact hP) (fun z => absurd z sz))⟩
    refine rx1.g (vgX12_readSize_29 hh K2 (LE0 rfl)) ?_
    refine rx1.of (rX12_readSizeb_32 hh _ _ _ _ bl ?_)
    refine ⟨fun a b => ?_, ?_⟩
    · have := Szo.m a b
      exact ⟨by omega, by omega⟩
    rw [rh_if_f sz]
    exact rx1.t (vtX12_readSize_43 hh (c_mustT hh _) (LE0 rfl)) ⟨rfl, rfl⟩
theorem t_sizec (hh : rh_hs wh) (hm : rh_ms wm) {v : Int → Int} {N p rn : Int} {A B : rhM} (T : Tq v N A B) (hA : A 1 3 = 0) (hB : B 0 10 = 0) (hw : B 0 11 = -1) : (∃ (q : Int) (A' B' : rhM), tC wh YX12_readSize 2 [(2, 24), (2, 8)] A A' ∧ A' 3 6 = q ∧ B' 0 11 = q ∧ (0 ≤ q ∧ q ≤ 4096) ∧ frx Fpc A A' ∧ frx Gpk B B' ∧ ∀ P : Int → rhM → Prop, P 0 B' → rh1 wm YX32_bytePicture 2 0 [(0, 2, 0), (1, 0, p), (2, 0, rn)] [] B P) ∨ ∃ w h : Int, Szo w h ∧ 2 ≤ N ∧ eC wh YX12_readSize 2 [(2, 24), (2, 8)] A 0 (rh_set (rh_set (rh_set A 1 3 2) 8 1 w) 8 2 h) ∧ ∀ P : Int → rhM → Prop, rh1 wm YX32_bytePicture 2 73 [(0, 2, 0), (1, 0, p), (2, 0, rn), (3, 0, w), (4, 0, h), (5, 0, 0)] [] (rh_set B 0 10 2) P → rh1 wm YX32_bytePicture 2 0 [(0, 2, 0), (1, 0, p), (2, 0, rn)] [] B P := by
  have bl := hs_sh hh
  have t1 := T.1.1
  have t2 := T.1.2.1
  have t3 := T.1.2.2.1
  have t4 := T.1.2.2.2
  by_cases n0 : N = 0
  · refine .inl ⟨0, rh_set A 3 6 0, rh_set B 0 11 0, tC.of1 (rCx.of (by decide) (LE0 rfl) ?_), rh_set_s _ _ _ _, rh_set_s _ _ _ _, ⟨by omega, by omega⟩, frx.rf.st (by unfold Fpc; omega), frx.rf.st (by unfold Gpk; omega), fun P hP => ?_⟩
    · have K := c_nextT hh A (by rw [hA, t1, n0])
      rw [hA] at K
      refine rx1.of (rX12_readSizec_0 hh _ _ bl ?_)
      exact rx1.t (vtX12_readSize_4 hh K (LE0 rfl)) ⟨rfl, rfl⟩
    · exact m_sz0 hm (t2.trans n0) (by omega) (by decide) hw P hP
  have K1 := c_next hh (k := 0) (n := N) A hA t1 ⟨by omega, by omega⟩ t4
  rw [(T.2 0 (by decide) (by omega)).1, show (0 : Int) + 1 = 1 from rfl] at K1
  by_cases ok : 1 ≤ v 0 ∧ v 0 ≤ 128
  case neg =>
    refine .inl ⟨0, rh_set (rh_set A 1 3 1) 3 6 0, rh_set (rh_set B 0 10 1) 0 11 0, tC.of1 (rCx.of (by decide) (LE0 rfl) ?_), rh_set_s _ _ _ _, rh_set_s _ _ _ _, ⟨by omega, by omega⟩, (frx.rf.st (by unfold Fpc; omega)).st (by unfold Fpc; omega), (frx.rf.st (by unfold Gpk; omega)).st (by unfold Gpk; omega), fun P hP => m_sz1 hm T hB (by omega) hw ok P hP⟩
    refine rx1.of (rX12_readSizec_0 hh _ _ bl ?_)
    refine rx1.g (vgX12_readSize_4 hh K1 (LE0 rfl)) ?_
    refine rx1.of (rX12_readSizec_7 hh _ _ _ bl ?_)
    rw [rh_if_f ok]
    exact rx1.t (vtX12_readSize_22 hh (c_mustT hh _) (LE0 rfl)) ⟨rfl, rfl⟩
  have T2 : Tq v N (rh_set A 1 3 1) (rh_set B 0 10 1) := T.fx (rh_set_j (by decide)) (rh_set_n (by decide)) (rh_set_j (by decide)) (rh_set_n (by decide))
  have hw2 : rh_set B 0 10 1 0 11 = -1 := by rw [rh_set_j (by decide)]; exact hw
  have ST : ∀ P : Option Int → rhM → Prop, rx1 wh YX12_readSize 2 29 [(0, 2, 24), (1, 2, 8), (2, 0, v 0)] [(2, 1)] (rh_set A 1 3 1) P → rx1 wh YX12_readSize 2 0 (rh_lo 0 [(2, 24), (2, 8)]) [] A P := fun P H => by
    refine rx1.of (rX12_readSizec_0 hh _ _ bl ?_)
    refine rx1.g (vgX12_readSize_4 hh K1 (LE0 rfl)) ?_
    refine rx1.of (rX12_readSizec_7 hh _ _ _ bl ?_)
    rw [rh_if_t ok]
    refine rx1.g (vgX12_readSize_22 hh (c_must hh (by decide) _) (LE0 rfl)) ?_
    refine rx1.of (rX12_readSizec_25 hh _ _ _ bl ?_)
    exact H
  by_cases n1 : N = 1
  · refine .inl ⟨1, rh_set (rh_set A 1 3 1) 3 6 1, rh_set (rh_set B 0 10 1) 0 11 1, tC.of1 (rCx.of (by decide) (LE0 rfl) (ST _ ?_)), rh_set_s _ _ _ _, rh_set_s _ _ _ _, ⟨by omega, by omega⟩, (frx.rf.st (by unfold Fpc; omega)).st (by unfold Fpc; omega), (frx.rf.st (by unfold Gpk; omega)).st (by unfold Gpk; omega), fun P hP => ?_⟩
    · have K := c_nextT hh (rh_set A 1 3 1) (by rw [T2.1.1, rh_set_s, n1])
      rw [rh_set_s] at K
      exact rx1.t (vtX12_readSize_29 hh K (LE0 rfl)) ⟨rfl, rfl⟩
    · exact m_sz2 hm T hB (by omega) hw ok P (m_sz3 hm (T2.1.2.1.trans n1) (by rw [rh_set_s]; omega) (by decide) hw2 P hP)
  have K2 := c_next hh (k := 1) (n := N) (rh_set A 1 3 1) (rh_set_s _ _ _ _) T2.1.1 ⟨by omega, by omega⟩ t4
  rw [(T2.2 1 (by decide) (by omega)).1, show (1 : Int) + 1 = 2 from rfl, set_tt] at K2
  by_cases sz : Szo (v 0) (v 1)
  · refine .inr ⟨v 0, v 1, sz, (by omega), eC.of1 ?_, fun P HP => m_sz2 hm T hB (by omega) hw ok P (m_sz4 hm T2 (rh_set_s _ _ _ _) (by omega) hw2 P (fun z => absurd sz z) (fun _ => by rw [set_tt]; exact HP))⟩
    have H : rCx wh YX12_readSize 2 [(2, 24), (2, 8)] A (fun o M' => o = some 0 ∧ M' = rh_set (rh_set (rh_set A 1 3 2) 8 1 (v 0)) 8 2 (v 1)) := by
      refine rCx.of (by decide) (LE0 rfl) (ST _ ?_)
      refine rx1.g (vgX12_readSize_29 hh K2 (LE0 rfl)) ?_
      refine rx1.of (rX12_readSizec_32 hh _ _ _ _ bl ?_)
      refine ⟨fun a b => ?_, ?_⟩
      · have := Szo.m a b
        exact ⟨by omega, by omega⟩
      rw [rh_if_t sz]
      refine rx1.g (vgX12_readSize_43 hh (c_must hh (by decide) _) (LE0 rfl)) ?_
      refine rx1.of (rX12_readSizec_46 hh _ _ _ _ bl ?_)
      exact ⟨rfl, rfl⟩
    obtain ⟨o, M', q, rfl, rfl⟩ := H
    exact ⟨0, _, q, rfl, rfl⟩
  · refine .inl ⟨1, rh_set (rh_set A 1 3 2) 3 6 1, rh_set (rh_set B 0 10 2) 0 11 1, tC.of1 (rCx.of (by decide) (LE0 rfl) (ST _ ?_)), rh_set_s _ _ _ _, rh_set_s _ _ _ _, ⟨by omega, by omega⟩, (frx.rf.st (by unfold Fpc; omega)).st (by unfold Fpc; omega), (frx.rf.st (by unfold Gpk; omega)).st (by unfold Gpk; omega), fun P hP => m_sz2 hm T hB (by omega) hw ok P (m_sz4 hm T2 (rh_set_s _ _ _ _) (by omega) hw2 P (fun _ => by rw [set_tt]; exact hP) (fun z => absurd z sz))⟩
    refine rx1.g (vgX12_readSize_29 hh K2 (LE0 rfl)) ?_
    refine rx1.of (rX12_readSizec_32 hh _ _ _ _ bl ?_)
    refine ⟨fun a b => ?_, ?_⟩
    · have := Szo.m a b
      exact ⟨by omega, by omega⟩
    rw [rh_if_f sz]
    exact rx1.t (vtX12_readSize_43 hh (c_mustT hh _) (LE0 rfl)) ⟨rfl, rfl⟩
end PictS
