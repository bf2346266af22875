/-! ===== LAYER 2: the press: setting type, wear ===== -/
section TypeS
variable {wh wm : rhW}
/-- the sheet when k letters are drawn -/
noncomputable def pst (B : rhM) (s w : Int) : Nat → Int → Int
  | 0, _ => 255
  | k + 1, q => rh_if (Dtl B (B 165 k) s (B 163 k) (B 164 k - s * B 66 (B 165 k)) w 0 q) 0 (pst B s w k q)
theorem pst_b {B : rhM} {s w q : Int} : ∀ k : Nat, 0 ≤ pst B s w k q ∧ pst B s w k q ≤ 255
  | 0 => by simp only [pst]; decide
  | k + 1 => by
    have r := pst_b (B := B) (s := s) (w := w) (q := q) k
    simp only [pst]
    by_cases z : Dtl B (B 165 k) s (B 163 k) (B 164 k - s * B 66 (B 165 k)) w 0 q
    · rw [rh_if_t z]; decide
    · rw [rh_if_f z]; exact r
theorem pst_f {B B' : rhM} {s w q : Int} (e65 : B' 65 = B 65) (e66 : B' 66 = B 66) (e69 : B' 69 = B 69) : ∀ k : Nat, (∀ i : Int, 0 ≤ i → i < k → B' 163 i = B 163 i ∧ B' 164 i = B 164 i ∧ B' 165 i = B 165 i) → pst B' s w k q = pst B s w k q
  | 0 => fun _ => rfl
  | k + 1 => fun h => by
    have r := pst_f (s := s) (w := w) (q := q) e65 e66 e69 k (fun i i0 i1 => h i i0 (by omega))
    obtain ⟨h1, h2, h3⟩ := h k (by omega) (by omega)
    simp only [pst]
    rw [r, h1, h2, h3, e66]
    have : Dtl B' (B 165 k) s (B 163 k) (B 164 k - s * B 66 (B 165 k)) w 0 q = Dtl B (B 165 k) s (B 163 k) (B 164 k - s * B 66 (B 165 k)) w 0 q := by
      unfold Dtl Dtr dtf
      rw [e65, e66, e69]
    rw [this]
/-- the letters set so far -/
def TyL (A B : rhM) (N s w h i : Int) : Prop := (0 ≤ B 165 i ∧ B 165 i < N) ∧ A 203 i = B 64 (B 165 i) ∧ (A 204 (4 * i) = B 163 i ∧ A 204 (4 * i + 1) = B 164 i - s * B 66 (B 165 i) ∧ A 204 (4 * i + 2) = s * B 65 (B 165 i) ∧ A 204 (4 * i + 3) = s * B 66 (B 165 i)) ∧ (0 ≤ B 163 i ∧ B 163 i + s * B 65 (B 165 i) ≤ w) ∧ (0 ≤ B 164 i - s * B 66 (B 165 i) ∧ B 164 i ≤ h)
def Typ (A B : rhM) (N s w h c : Int) : Prop := A 202 3 = c ∧ B 0 207 = c ∧ (0 ≤ c ∧ c ≤ 250) ∧ (∀ i, 0 ≤ i → i < c → TyL A B N s w h i) ∧ ∀ q, 0 ≤ q → q < w * h → rh_and (A 9 q) 255 = pst B s w c.toNat q
def Fty (c j : Int) : Prop := c = 9 ∨ c = 203 ∨ c = 204 ∨ (c = 202 ∧ j = 3)
def Gty (c j : Int) : Prop := (c = 0 ∧ j = 207) ∨ (163 ≤ c ∧ c ≤ 165)
theorem c_note (hh : rh_hs wh) {A : rhM} {c l x y a b : Int} (h : A 202 3 = c) (hc : 0 ≤ c ∧ c < 250) : eC wh YX23_note 0 [(2, 202), (0, l), (0, x), (0, y), (0, a), (0, b)] A 0 (rh_set (rh_set (rh_set (rh_set (rh_set (rh_set A 203 c l) 204 (4 * c) x) 204 (4 * c + 1) y) 204 (4 * c + 2) a) 204 (4 * c + 3) b) 202 3 (c + 1)) := by
  refine eC.of1 (rC1.of (by decide) (LE0 rfl) ?_)
  refine rh1.of (rX23_note_0 hh _ _ _ _ _ _ ?_)
  rw [h]
  refine ⟨hc, ?_⟩
  (intro zq hzq; replace hzq := hzq.symm; subst hzq)
  rw [rh_set_a (by decide), h]
  refine ⟨⟨by omega, by omega⟩, ?_⟩
  (intro zq hzq; replace hzq := hzq.symm; subst hzq)
  rw [rh_set_a (by decide), rh_set_a (by decide), h]
  refine ⟨⟨by omega, by omega⟩, ?_⟩
  (intro zq hzq; replace hzq := hzq.symm; subst hzq)
  rw [rh_set_a (by decide), rh_set_a (by decide), rh_set_a (by decide), h]
  refine ⟨⟨by omega, by omega⟩, ?_⟩
  (intro zq hzq; replace hzq := hzq.symm; subst hzq)
  rw [rh_set_a (by decide), rh_set_a (by decide), rh_set_a (by decide), rh_set_a (by decide), h]
  refine ⟨⟨by omega, by omega⟩, ?_⟩
  (intro zq hzq; replace hzq := hzq.symm; subst hzq)
  rw [rh_set_a (by decide), rh_set_a (by decide), rh_set_a (by decide), rh_set_a (by decide), rh_set_a (by decide), h]
  exact ⟨⟨by omega, by omega⟩, rfl, rfl⟩
/-- one more letter -/
theorem t_letter (hh : rh_hs wh) {A B : rhM} {N s w h c f x e : Int} (R : FmR A B f) (hN : N ≤ 150) (hf : 0 ≤ f ∧ f < N) (hs : 1 ≤ s ∧ s ≤ 4) (hw : w ≤ 128 ∧ h ≤ 96) (hM : w * h ≤ 6144) (T : Typ A B N s w h c) (hc : c < 250) (hx : 0 ≤ x ∧ x + s * B 65 f ≤ w) (he : 0 ≤ e - s * B 66 f ∧ e ≤ h) (a8 : A 8 1 = w) :
    ∃ A1 A2 B', eC wh YX23_draw 1 [(2, 202), (2, 41), (0, f), (0, s), (0, x), (0, e - s * B 66 f)] A 0 A1 ∧ eC wh YX23_note 0 [(2, 202), (0, B 64 f), (0, x), (0, e - s * B 66 f), (0, s * B 65 f), (0, s * B 66 f)] A1 0 A2 ∧ B' = rh_set (rh_set (rh_set (rh_set B 163 c x) 164 c e) 165 c f) 0 207 (c + 1) ∧ Typ A2 B' N s w h (c + 1) ∧ frx Fty A A2 ∧ frx Gty B B' := by
  obtain ⟨t1, t2, t3, t4, t5⟩ := T
  obtain ⟨A1, K1, v1, F1⟩ := h_draw hh (A := A) (B := B) (f := f) (s := s) (x := x) (y := e - s * B 66 f) (w := w) (h := h) R ⟨by omega, by omega⟩ hs hx ⟨he.1, by omega⟩ hw hM a8
  have K2 := c_note hh (A := A1) (c := c) (l := B 64 f) (x := x) (y := e - s * B 66 f) (a := s * B 65 f) (b := s * B 66 f) (by rw [F1 202 3 (by decide)]; exact t1) ⟨by omega, by omega⟩
  obtain ⟨A2, hA2⟩ : ∃ A2, A2 = rh_set (rh_set (rh_set (rh_set (rh_set (rh_set A1 203 c (B 64 f)) 204 (4 * c) x) 204 (4 * c + 1) (e - s * B 66 f)) 204 (4 * c + 2) (s * B 65 f)) 204 (4 * c + 3) (s * B 66 f)) 202 3 (c + 1) := ⟨_, rfl⟩
  rw [← hA2] at K2
  obtain ⟨B', hB'⟩ : ∃ B', B' = rh_set (rh_set (rh_set (rh_set B 163 c x) 164 c e) 165 c f) 0 207 (c + 1) := ⟨_, rfl⟩
  have f2 : frx (fun a j => (a = 203 ∧ j = c) ∨ (a = 204 ∧ 4 * c ≤ j ∧ j < 4 * c + 4) ∨ (a = 202 ∧ j = 3)) A1 A2 := by
    rw [hA2]
    exact (((((frx.rf.st (by omega)).st (by omega)).st (by omega)).st (by omega)).st (by omega)).st (by omega)
  have g2 : frx (fun a j => ((a = 163 ∨ a = 164 ∨ a = 165) ∧ j = c) ∨ (a = 0 ∧ j = 207)) B B' := by
    rw [hB']
    exact (((frx.rf.st (by omega)).st (by omega)).st (by omega)).st (by omega)
  have gc : ∀ a, (a = 64 ∨ a = 65 ∨ a = 66 ∨ a = 69) → B' a = B a := fun a ha => funext (fun j => g2 a j (by omega))
  have b163 : B' 163 c = x := by rw [hB', rh_set_a (by decide), rh_set_a (by decide), rh_set_a (by decide), rh_set_s]
  have b164 : B' 164 c = e := by rw [hB', rh_set_a (by decide), rh_set_a (by decide), rh_set_s]
  have b165 : B' 165 c = f := by rw [hB', rh_set_a (by decide), rh_set_s]
  have a203 : A2 203 c = B 64 f := by rw [hA2, rh_set_a (by decide), rh_set_a (by decide), rh_set_a (by decide), rh_set_a (by decide), rh_set_a (by decide), rh_set_s]
  have a0 : A2 204 (4 * c) = x := by rw [hA2, rh_set_a (by decide), rh_set_j (by omega), rh_set_j (by omega), rh_set_j (by omega), rh_set_s]
  have a1 : A2 204 (4 * c + 1) = e - s * B 66 f := by rw [hA2, rh_set_a (by decide), rh_set_j (by omega), rh_set_j (by omega), rh_set_s]
  have a2 : A2 204 (4 * c + 2) = s * B 65 f := by rw [hA2, rh_set_a (by decide), rh_set_j (by omega), rh_set_s]
  have a3 : A2 204 (4 * c + 3) = s * B 66 f := by rw [hA2, rh_set_a (by decide), rh_set_s]
  refine ⟨A1, A2, B', K1, K2, hB', ⟨?_, ?_, by omega, fun i i0 i1 => ?_, fun q q0 q1 => ?_⟩, (F1.w (fun a j h => by unfold Fty; omega)).tr (f2.w (fun a j h => by unfold Fty; omega)), g2.w (fun a j h => by unfold Gty; omega)⟩
  · rw [hA2, rh_set_s]
  · rw [hB', rh_set_s]
  · unfold TyL
    rw [gc 64 (by omega), gc 65 (by omega), gc 66 (by omega)]
    by_cases ei : i = c
    · rw [ei, b163, b164, b165, a203, a0, a1, a2, a3]
      exact ⟨hf, rfl, ⟨rfl, rfl, rfl, rfl⟩, hx, he⟩
    · have o := t4 i i0 (by omega)
      unfold TyL at o
      rw [g2 163 i (by omega), g2 164 i (by omega), g2 165 i (by omega), f2 203 i (by omega), f2 204 _ (by omega), f2 204 _ (by omega), f2 204 _ (by omega), f2 204 _ (by omega), F1 203 i (by omega), F1 204 _ (by omega), F1 204 _ (by omega), F1 204 _ (by omega), F1 204 _ (by omega)]
      exact o
  · have pe : pst B' s w c.toNat q = pst B s w c.toNat q := pst_f (gc 65 (by omega)) (gc 66 (by omega)) (gc 69 (by omega)) c.toNat (fun i i0 i1 => ⟨g2 163 i (by omega), g2 164 i (by omega), g2 165 i (by omega)⟩)
    have hc1 : (c + 1).toNat = c.toNat + 1 := by omega
    rw [f2 9 q (by omega), v1 q, hc1]
    simp only [pst]
    rw [show ((c.toNat : Nat) : Int) = c by omega, b163, b164, b165, gc 66 (by omega), pe]
    have de : Dtl B' f s x (e - s * B 66 f) w 0 q = Dtl B f s x (e - s * B 66 f) w 0 q := by
      unfold Dtl Dtr dtf
      rw [gc 65 (by omega), gc 66 (by omega), gc 69 (by omega)]
    rw [de]
    by_cases z : Dtl B f s x (e - s * B 66 f) w 0 q
    · rw [rh_if_t z, rh_if_t z]; decide
    · rw [rh_if_f z, rh_if_f z]; exact t5 q q0 q1
/-- wearing out -/
def mxd (z : Int) : Int := wrl (rh_lxor z (rh_lushr z 29) * (-4658895280553007687))
theorem c_mixed (hm : rh_ms wm) {x : Int} (B : rhM) : eC wm YX32_mixed 0 [(1, x)] B (mxd x) B := by
  refine eC.of1 (rC1.of (by decide) (LE0 rfl) ?_)
  refine rh1.of (rX32_mixedq_0 hm _ _ ?_)
  refine rh1.s (eS.wll _) ?_
  refine rh1.of (rX32_mixedq_10 hm _ _ ?_)
  exact ⟨rfl, rfl⟩
theorem lush_b (z : Int) : 0 ≤ rh_lushr z 33 ∧ rh_lushr z 33 < 2147483648 := by
  unfold rh_lushr
  have hs : ((rhI 33).toInt64.toUInt64 &&& Int64.toUInt64 63) = 33 := by decide
  rw [hs]
  have h1 : ((rhJ z).toUInt64 >>> (33 : UInt64)).toNat < 2147483648 := by
    rw [UInt64.toNat_shiftRight]
    have h2 := (rhJ z).toUInt64.toNat_lt
    have h3 : (33 : UInt64).toNat % 64 = 33 := by decide
    rw [h3, Nat.shiftRight_eq_div_pow]
    omega
  generalize ((rhJ z).toUInt64 >>> (33 : UInt64)) = y at h1
  have h4 : y.toInt64.toInt = (y.toNat : Int) := by
    show y.toBitVec.toInt = _
    rw [BitVec.toInt_eq_toNat_cond]
    have : y.toBitVec.toNat = y.toNat := rfl
    rw [this, if_pos (by omega)]
  rw [h4]
  omega
theorem t_wear (hh : rh_hs wh) (hm : rh_ms wm) {w h N sd n : Int} (hw : w * h = N) (hN : 0 < N ∧ N ≤ 6144) (hn : 0 ≤ n ∧ n ≤ 2000) (A B : rhM) (a1 : A 8 1 = w) (a2 : A 8 2 = h) (rel : ∀ q, 0 ≤ q → q < N → rh_and (A 9 q) 255 = B 6 q ∧ 0 ≤ B 6 q ∧ B 6 q ≤ 255) :
    ∃ A' B', eC wh YX23_wear 1 [(2, 202), (0, sd), (0, n)] A 0 A' ∧ eC wm YX32_wearOut 1 [(2, 0), (0, N), (0, sd), (0, n)] B 0 B' ∧ (∀ q, 0 ≤ q → q < N → rh_and (A' 9 q) 255 = B' 6 q ∧ 0 ≤ B' 6 q ∧ B' 6 q ≤ 255) ∧ frx (fun c _ => c = 9) A A' ∧ frx (fun c _ => c = 6) B B' := by
  have key : ∀ (u : Nat) (k : Int) (X Y : rhM), k + u = n → 0 ≤ k → frx (fun c _ => c = 9) A X → frx (fun c _ => c = 6) B Y → (∀ q, 0 ≤ q → q < N → rh_and (X 9 q) 255 = Y 6 q ∧ 0 ≤ Y 6 q ∧ Y 6 q ≤ 255) → ∃ A' B', (∀ P : Int → rhM → Prop, P 0 A' → rh1 wh YX23_wear 1 2 [(0, 2, 202), (1, 0, sd), (2, 0, n), (3, 0, k)] [] X P) ∧ (∀ P : Int → rhM → Prop, P 0 B' → rh1 wm YX32_wearOut 1 3 [(0, 2, 0), (1, 0, N), (2, 0, sd), (3, 0, n), (4, 0, k)] [] Y P) ∧ (∀ q, 0 ≤ q → q < N → rh_and (A' 9 q) 255 = B' 6 q ∧ 0 ≤ B' 6 q ∧ B' 6 q ≤ 255) ∧ frx (fun c _ => c = 9) A A' ∧ frx (fun c _ => c = 6) B B' := by
    intro u
    induction u with
    | zero =>
      intro k X Y hk k0 f g r
      refine ⟨X, Y, fun P HP => ?_, fun P HP => ?_, r, f, g⟩
      · refine rh1.of (rX23_wearq_2 hh _ _ _ _ ?_)
        exact ⟨fun z => by omega, fun _ => HP⟩
      · refine rh1.of (rX32_wearOutq_3 hm _ _ _ _ _ ?_)
        exact ⟨fun z => by omega, fun _ => HP⟩
    | succ u ih =>
      intro k X Y hk k0 f g r
      obtain ⟨z, hz⟩ : ∃ z, z = mxd (mxd (wrl (sd + k * (-7046029254386353131)))) := ⟨_, rfl⟩
      have lb := lush_b z
      obtain ⟨i, hi⟩ : ∃ i, i = rh_lushr z 33 % N := ⟨_, rfl⟩
      have ib : 0 ≤ i ∧ i < N := by rw [hi]; exact ⟨Int.emod_nonneg _ (by omega), Int.emod_lt_of_pos _ hN.1⟩
      obtain ⟨r1, r2⟩ := r i ib.1 ib.2
      have b5 := b255 (v := 255 - Y 6 i) (by omega) (by omega)
      obtain ⟨A', B', E1, E2, E3⟩ := ih (k + 1) (rh_set X 9 i (rh_i2b (255 - Y 6 i))) (rh_set Y 6 i (255 - Y 6 i)) (by omega) (by omega) (f.st rfl) (g.st rfl) (fun q q0 q1 => by
        by_cases e : q = i
        · rw [e, rh_set_s, rh_set_s, b5]; exact ⟨rfl, ⟨by omega, by omega⟩⟩
        · rw [rh_set_j e, rh_set_j e]; exact r q q0 q1)
      refine ⟨A', B', fun P HP => ?_, fun P HP => ?_, E3⟩
      · refine rh1.of (rX23_wearq_2 hh _ _ _ _ ?_)
        refine ⟨fun _ => ?_, fun z => by omega⟩
        refine rh1.s (eS.wll _) ?_
        refine rh1.of (rX23_wearq_16 hh _ _ _ _ _ ?_)
        refine rh1.s (eS.wll _) ?_
        refine rh1.of (rX23_wearq_30 hh _ _ _ _ _ ?_)
        refine rh1.s (eS.wll _) ?_
        have ez : wrl (rh_lxor (wrl (rh_lxor (wrl (sd + k * (-7046029254386353131))) (rh_lushr (wrl (sd + k * (-7046029254386353131))) 29) * (-4658895280553007687))) (rh_lushr (wrl (rh_lxor (wrl (sd + k * (-7046029254386353131))) (rh_lushr (wrl (sd + k * (-7046029254386353131))) 29) * (-4658895280553007687))) 29) * (-4658895280553007687)) = z := hz.symm
        rw [ez]
        refine rh1.of (rX23_wearq_44 hh _ _ _ _ _ ?_)
        rw [f 8 1 (by decide), f 8 2 (by decide), a1, a2, hw, ← hi]
        refine ⟨⟨by omega, by omega⟩, ⟨by omega, by omega⟩, ⟨by omega, by omega⟩, ?_⟩
        (intro zq hzq; replace hzq := hzq.symm; subst hzq)
        rw [r1]
        refine ⟨⟨by omega, by omega⟩, ?_⟩
        (intro zq hzq; replace hzq := hzq.symm; subst hzq)
        exact ⟨⟨by omega, by omega⟩, rh_i2b_rg _, ⟨by omega, by omega⟩, E1 P HP⟩
      · refine rh1.of (rX32_wearOutq_3 hm _ _ _ _ _ ?_)
        refine ⟨fun _ => ?_, fun z => by omega⟩
        refine rh1.s (eS.wll _) ?_
        refine rh1.s (vX32_wearOut_19 (c_mixed hm Y) (LE0 rfl)) ?_
        refine rh1.s (vX32_wearOut_22 (c_mixed hm Y) (LE0 rfl)) ?_
        rw [← hz]
        refine rh1.of (rX32_wearOutq_25 hm _ _ _ _ _ _ ?_)
        rw [← hi]
        refine ⟨⟨by omega, by omega⟩, ⟨by omega, by omega⟩, ⟨by omega, by omega⟩, ?_⟩
        (intro zq hzq; replace hzq := hzq.symm; subst hzq)
        exact ⟨⟨by omega, by omega⟩, ⟨by omega, by omega⟩, ⟨by omega, by omega⟩, E2 P HP⟩
  obtain ⟨A', B', E1, E2, E3⟩ := key n.toNat 0 A B (by omega) (by decide) frx.rf frx.rf rel
  refine ⟨A', B', eC.of1 (rC1.of (by decide) (LE0 rfl) ?_), eC.of1 (rC1.of (by decide) (LE0 rfl) ?_), E3⟩
  · refine rh1.of (rX23_wearq_0 hh _ _ _ ?_)
    exact E1 _ ⟨rfl, rfl⟩
  · refine rh1.of (rX32_wearOutq_0 hm _ _ _ _ ?_)
    exact E2 _ ⟨rfl, rfl⟩
end TypeS
