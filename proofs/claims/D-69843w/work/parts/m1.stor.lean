/-! ===== LAYER 2: a row is written into the store ===== -/
section Stor
variable {wh wm : rhW}
theorem sx_bv (x : BitVec 32) : ((x.signExtend 8).signExtend 32) &&& 255#32 = x &&& 255#32 := by
  have k : ∀ j : Fin 32, 8 ≤ (j : Nat) → (255#32).getLsbD j = false := by decide
  apply BitVec.eq_of_getLsbD_eq
  intro i hi
  rw [BitVec.getLsbD_and, BitVec.getLsbD_and]
  by_cases h : i < 8
  · congr 1
    rw [BitVec.getLsbD_signExtend, BitVec.getLsbD_signExtend]
    simp [h, hi]
  · have := k ⟨i, hi⟩ (by show 8 ≤ i; omega)
    rw [show (255#32).getLsbD i = false from this, Bool.and_false, Bool.and_false]
theorem and_i2b (v : Int) : rh_and (rh_i2b v) 255 = rh_and v 255 := by
  unfold rh_and rh_i2b
  have e : rhI ((rhI v).toInt8.toInt32.toInt) = (rhI v).toInt8.toInt32 := Int32.ofInt_toInt _
  rw [e]
  have e2 : (rhI v).toInt8.toInt32 &&& rhI 255 = rhI v &&& rhI 255 := by
    apply Int32.toBitVec_inj.mp
    exact sx_bv (rhI v).toBitVec
  rw [e2]
theorem and_bb (v : Int) : 0 ≤ rh_and v 255 ∧ rh_and v 255 ≤ 255 := by
  have r := rh_i2b_rg v
  rw [← and_i2b, by_e r]
  by_cases h : rh_i2b v < 0
  · rw [if_pos h]; omega
  · rw [if_neg h]; omega
theorem and_id {v : Int} (h : 0 ≤ v ∧ v ≤ 255) : rh_and v 255 = v := by
  rw [← and_i2b]
  exact b255 h.1 h.2
theorem shr8_b {v : Int} (h : 0 ≤ v ∧ v ≤ 65535) : 0 ≤ rh_shr v 8 ∧ rh_shr v 8 ≤ 255 := by
  have e : rhI 8 &&& 31 = 8 := by decide
  have hv : (rhI v).toInt = v := rh_ti (show rI v from ⟨by omega, by omega⟩)
  have e2 : rh_shr v 8 = v >>> (8 : Nat) := by
    unfold rh_shr
    rw [e]
    show ((rhI v).toBitVec.sshiftRight' ((8 : Int32).toBitVec.smod 32)).toInt = v >>> (8 : Nat)
    rw [BitVec.toInt_sshiftRight', show ((8 : Int32).toBitVec.smod 32).toNat = 8 by decide]
    show (rhI v).toInt >>> (8 : Nat) = _
    rw [hv]
  rw [e2, Int.shiftRight_eq_div_pow, show ((2 ^ 8 : Nat) : Int) = 256 from rfl]
  omega
/-- a row that is being written: its number, where it begins, its bytes -/
def Sox (A : rhM) (m p : Int) (L : List Int) : Prop := A 233 2 = m ∧ A 235 m = p ∧ A 235 (m + 1) = p + L.length ∧ ∀ i : Nat, i < L.length → rh_and (A 234 (p + i)) 255 = L.getD i 0 ∧ -128 ≤ A 234 (p + i) ∧ A 234 (p + i) ≤ 127
def Fsv (m p c j : Int) : Prop := (c = 234 ∧ p ≤ j) ∨ (c = 235 ∧ j = m + 1)
theorem c_sadd (hh : rh_hs wh) {A : rhM} {m p b : Int} {L : List Int} (h : Sox A m p L) (hm : 0 ≤ m ∧ m < 40) (p0 : 0 ≤ p) (room : p + L.length < 40000) : ∃ A', eC wh YX28_add 0 [(2, 233), (0, b)] A 0 A' ∧ Sox A' m p (L ++ [rh_and b 255]) ∧ frx (Fsv m p) A A' := by
  obtain ⟨h1, h2, h3, h4⟩ := h
  refine ⟨rh_set (rh_set A 235 (m + 1) (p + L.length + 1)) 234 (p + L.length) (rh_i2b b), eC.of1 (rC1.of (by decide) (LE0 rfl) ?_), ⟨?_, ?_, ?_, fun i hi => ?_⟩, (frx.rf.st (by unfold Fsv; omega)).st (by unfold Fsv; omega)⟩
  · refine rh1.of (rX28_add_0 hh _ _ ?_)
    rw [h1, h3]
    refine ⟨⟨by omega, by omega⟩, ?_⟩
    refine rh1.s (eS.fx 1 (x := m + 1) rfl ⟨by omega, by omega⟩ rfl) ?_
    refine rh1.s vX28_add_16 ?_
    refine rh1.of (rX28_add_17 hh _ _ _ _ _ ?_)
    exact ⟨⟨by omega, by omega⟩, ⟨by omega, by omega⟩, ⟨by omega, by omega⟩, rfl, rfl⟩
  · rw [rh_set_a (by decide), rh_set_a (by decide)]; exact h1
  · rw [rh_set_a (by decide), rh_set_j (by omega)]; exact h2
  · rw [rh_set_a (by decide), rh_set_s, List.length_append, List.length_singleton]; omega
  · rw [List.length_append, List.length_singleton] at hi
    by_cases e : i = L.length
    · subst e
      rw [rh_set_s, gdb, and_i2b]
      exact ⟨rfl, rh_i2b_rg b⟩
    · rw [rh_set_j (by omega), rh_set_a (by decide), gda (by omega)]
      exact h4 i (by omega)
theorem c_sbeg (hh : rh_hs wh) {A : rhM} {m p kd n : Int} (h1 : A 233 2 = m) (h2 : A 235 m = p) (hm : 0 ≤ m ∧ m < 40) (p0 : 0 ≤ p) (room : p + 5 ≤ 40000) : ∃ A', eC wh YX28_begin 1 [(2, 233), (0, kd), (0, n)] A 0 A' ∧ Sox A' m p [rh_and kd 255, rh_and (rh_shr n 8) 255, rh_and n 255] ∧ frx (Fsv m p) A A' := by
  refine ⟨rh_set (rh_set (rh_set (rh_set A 234 p (rh_i2b kd)) 234 (p + 1) (rh_i2b (rh_shr n 8))) 234 (p + 2) (rh_i2b n)) 235 (m + 1) (p + 3), eC.of1 (rC1.of (by decide) (LE0 rfl) ?_), ⟨?_, ?_, ?_, fun i hi => ?_⟩, (((frx.rf.st (by unfold Fsv; omega)).st (by unfold Fsv; omega)).st (by unfold Fsv; omega)).st (by unfold Fsv; omega)⟩
  · refine rh1.of (rX28_begin_0 hh _ _ _ ?_)
    rw [h1, h2]
    refine ⟨⟨by omega, by omega⟩, fun y hy => ?_⟩
    rw [hy]
    refine ⟨⟨by omega, by omega⟩, ⟨by omega, by omega⟩, ⟨by omega, by omega⟩, fun M3 e3 => ?_⟩
    have e4 : M3 233 2 = m := by rw [e3, rh_set_a (by decide), rh_set_a (by decide), rh_set_a (by decide)]; exact h1
    rw [e4]
    exact ⟨⟨by omega, by omega⟩, ⟨by omega, by omega⟩, rfl, by rw [e3]⟩
  · rw [rh_set_a (by decide), rh_set_a (by decide), rh_set_a (by decide), rh_set_a (by decide)]; exact h1
  · rw [rh_set_j (by omega), rh_set_a (by decide), rh_set_a (by decide), rh_set_a (by decide)]; exact h2
  · rw [rh_set_s]; rfl
  · have hi3 : i = 0 ∨ i = 1 ∨ i = 2 := by
      have : i < 3 := hi
      omega
    rw [rh_set_a (by decide)]
    rcases hi3 with rfl | rfl | rfl
    · rw [rh_set_j (by omega), rh_set_j (by omega), show p + ((0 : Nat) : Int) = p by omega, rh_set_s, and_i2b]
      exact ⟨rfl, rh_i2b_rg _⟩
    · rw [rh_set_j (by omega), show p + ((1 : Nat) : Int) = p + 1 by omega, rh_set_s, and_i2b]
      exact ⟨rfl, rh_i2b_rg _⟩
    · rw [show p + ((2 : Nat) : Int) = p + 2 by omega, rh_set_s, and_i2b]
      exact ⟨rfl, rh_i2b_rg _⟩
noncomputable def lsm (L : List Int) : Int := wsm (fun k => L.getD k.toNat 0) L.length % 65521
theorem lsm_b {L : List Int} (al : Al L) (h : L.length ≤ 40000) : 0 ≤ lsm L ∧ lsm L < 65521 := by
  unfold lsm
  exact ⟨Int.emod_nonneg _ (by decide), Int.emod_lt_of_pos _ (by decide)⟩
def Fsw (m p c j : Int) : Prop := Fsv m p c j ∨ (c = 233 ∧ (j = 2 ∨ j = 3))
theorem c_send (hh : rh_hs wh) {A : rhM} {m p : Int} {L : List Int} (h : Sox A m p L) (al : Al L) (hm : 0 ≤ m ∧ m < 40) (p0 : 0 ≤ p) (room : p + L.length + 2 ≤ 40000) : ∃ A', eC wh YX28_end 2 [(2, 233)] A m A' ∧ A' 233 2 = m + 1 ∧ A' 233 3 = 1 ∧ A' 235 (m + 1) = p + L.length + 2 ∧ (∀ i : Nat, i < L.length + 2 → rh_and (A' 234 (p + i)) 255 = (L ++ [rh_and (rh_shr (lsm L) 8) 255] ++ [rh_and (lsm L) 255]).getD i 0 ∧ -128 ≤ A' 234 (p + i) ∧ A' 234 (p + i) ≤ 127) ∧ frx (Fsw m p) A A' := by
  obtain ⟨h1, h2, h3, h4⟩ := h
  have K := c_sumH hh (A := A) (i := m) (p := p) (n := L.length) (f := fun k => L.getD k.toNat 0) ⟨hm.1, by omega⟩ h2 p0 ⟨by omega, by omega⟩ (fun k k0 k1 => by
    have := h4 k.toNat (by omega)
    rw [show ((k.toNat : Nat) : Int) = k by omega] at this
    exact ⟨this.1, al.gd k.toNat (by omega)⟩)
  rw [Int.toNat_natCast] at K
  have K2 : eC wh YX28_sum 1 [(2, 233), (0, m), (0, (L.length : Int))] A (lsm L) A := K
  obtain ⟨A1, E1, o1, f1⟩ := c_sadd hh (b := rh_shr (lsm L) 8) ⟨h1, h2, h3, h4⟩ hm p0 (by omega)
  have ln1 : (L ++ [rh_and (rh_shr (lsm L) 8) 255]).length = L.length + 1 := by rw [List.length_append]; rfl
  obtain ⟨A2, E2, o2, f2⟩ := c_sadd hh (b := lsm L) o1 hm p0 (by rw [ln1]; omega)
  have ln2 : (L ++ [rh_and (rh_shr (lsm L) 8) 255] ++ [rh_and (lsm L) 255]).length = L.length + 2 := by rw [List.length_append, ln1]; rfl
  obtain ⟨p1, p2, p3, p4⟩ := o2
  rw [ln2] at p3 p4
  refine ⟨rh_set (rh_set A2 233 3 1) 233 2 (m + 1), eC.of1 (rC1.of (by decide) (LE0 rfl) ?_), rh_set_s _ _ _ _, by rw [rh_set_j (by decide), rh_set_s], by rw [rh_set_a (by decide), rh_set_a (by decide)]; omega, fun i hi => by rw [rh_set_a (by decide), rh_set_a (by decide)]; exact p4 i hi, ?_⟩
  · refine rh1.of (rX28_end_0 hh _ ?_)
    rw [h1, h2, h3]
    refine ⟨⟨by omega, by omega⟩, ⟨by omega, by omega⟩, ?_⟩
    rw [show p + (L.length : Int) - p = L.length by omega]
    refine rh1.s (eS.fx 0 (x := (L.length : Int)) rfl ⟨by omega, by omega⟩ rfl) ?_
    refine rh1.s (vX28_end_26 hh K2 (LE0 rfl)) ?_
    refine rh1.of (rX28_end_29 hh _ _ ?_)
    refine rh1.s (vX28_end_35 hh E1 (LE0 rfl)) ?_
    refine rh1.of (rX28_end_38 hh _ _ ?_)
    refine rh1.s (vX28_end_40 hh E2 (LE0 rfl)) ?_
    refine rh1.of (rX28_end_43 hh _ ?_)
    rw [rh_set_j (by decide), p1]
    refine ⟨by decide, fun y hy => ?_⟩
    rw [hy]
    refine ⟨⟨by omega, by omega⟩, fun M3 e3 => ?_⟩
    have e4 : M3 233 2 = m + 1 := by rw [e3, rh_set_s]
    rw [e4]
    exact ⟨⟨by omega, by omega⟩, by omega, e3⟩
  · exact (((f1.tr f2).w (fun c j h => .inl h)).st (by unfold Fsw; omega)).st (by unfold Fsw; omega)
/-- the model writes its line into the store -/
def Gsv (m p c j : Int) : Prop := (c = 196 ∧ p ≤ j) ∨ (c = 197 ∧ (j = m ∨ j = m + 1)) ∨ (c = 0 ∧ (j = 252 ∨ j = 253 ∨ j = 256))
noncomputable def mhd (B : rhM) (m p kd n : Int) : rhM := rh_set (rh_set (rh_set (rh_set B 197 m p) 196 p kd) 196 (p + 1) (rh_shr n 8)) 196 (p + 2) (rh_and n 255)
theorem m_stor (hm : rh_ms wm) {B : rhM} {m p kd : Int} {l : List Int} (o : Mox B l) (al : Al l) (hk : 0 ≤ kd ∧ kd ≤ 255) (h52 : B 0 252 = m) (h53 : B 0 253 = p) (hm' : 0 ≤ m ∧ m < 40) (p0 : 0 ≤ p) (hl : l.length ≤ 16000) (room : p + l.length + 5 ≤ 40000) : ∃ B', (∀ P : Int → rhM → Prop, P m B' → rh1 wm YX32_save 4 273 [(0, 2, 0), (3, 0, p), (4, 0, 0)] [] (mhd B m p kd l.length) P) ∧ B' 0 252 = m + 1 ∧ B' 0 253 = p + l.length + 5 ∧ B' 0 256 = 1 ∧ B' 197 m = p ∧ B' 197 (m + 1) = p + l.length + 5 ∧ (∀ i : Nat, i < l.length + 5 → B' 196 (p + i) = ([kd, rh_shr l.length 8, rh_and l.length 255] ++ l ++ [rh_shr (lsm ([kd, rh_shr l.length 8, rh_and l.length 255] ++ l)) 8] ++ [rh_and (lsm ([kd, rh_shr l.length 8, rh_and l.length 255] ++ l)) 255]).getD i 0) ∧ frx (Gsv m p) B B' := by
  obtain ⟨o1, o2⟩ := o
  obtain ⟨h, hh⟩ : ∃ h : List Int, h = [kd, rh_shr l.length 8, rh_and l.length 255] := ⟨_, rfl⟩
  rw [← hh]
  have hl3 : h.length = 3 := by rw [hh]; rfl
  -- shift of a short number
  have sh : 0 ≤ rh_shr (l.length : Int) 8 ∧ rh_shr (l.length : Int) 8 ≤ 255 := shr8_b ⟨by omega, by omega⟩
  have alh : Al h := by
    rw [hh]
    exact (Al.one hk).ap ((Al.one sh).ap (Al.one (and_bb _)))
  have fh : frx (Gsv m p) B (mhd B m p kd l.length) := (((frx.rf.st (by unfold Gsv; omega)).st (by unfold Gsv; omega)).st (by unfold Gsv; omega)).st (by unfold Gsv; omega)
  have by3 : ∀ i : Nat, i < 3 → mhd B m p kd l.length 196 (p + i) = h.getD i 0 := fun i hi => by
    have hi3 : i = 0 ∨ i = 1 ∨ i = 2 := by omega
    unfold mhd
    rw [hh]
    rcases hi3 with rfl | rfl | rfl
    · rw [rh_set_j (by omega), rh_set_j (by omega), show p + ((0 : Nat) : Int) = p by omega, rh_set_s]
      rfl
    · rw [rh_set_j (by omega), show p + ((1 : Nat) : Int) = p + 1 by omega, rh_set_s]
      rfl
    · rw [show p + ((2 : Nat) : Int) = p + 2 by omega, rh_set_s]
      rfl
  -- the copy
  have key : ∀ (u k : Nat) (B1 : rhM), k + u = l.length → (∀ i : Nat, i < 3 + k → B1 196 (p + i) = (h ++ l).getD i 0) → frx (Gsv m p) B B1 → (∀ c j, c = 0 ∨ c = 197 → B1 c j = mhd B m p kd l.length c j) → ∃ B2, (∀ P : Int → rhM → Prop, rh1 wm YX32_save 4 273 [(0, 2, 0), (3, 0, p), (4, 0, (l.length : Int))] [] B2 P → rh1 wm YX32_save 4 273 [(0, 2, 0), (3, 0, p), (4, 0, (k : Int))] [] B1 P) ∧ (∀ i : Nat, i < 3 + l.length → B2 196 (p + i) = (h ++ l).getD i 0) ∧ frx (Gsv m p) B B2 ∧ (∀ c j, c = 0 ∨ c = 197 → B2 c j = mhd B m p kd l.length c j) := by
    intro u
    induction u with
    | zero =>
      intro k B1 hk h1 f1 g1
      have e : k = l.length := by omega
      subst e
      exact ⟨B1, fun P K => K, h1, f1, g1⟩
    | succ u ih =>
      intro k B1 hk h1 f1 g1
      have e7 : B1 0 177 = l.length := by rw [f1 _ _ (by unfold Gsv; omega)]; exact o1
      have e14 : B1 140 k = l.getD k 0 := by rw [f1 _ _ (by unfold Gsv; omega)]; exact o2 k (by omega)
      obtain ⟨B2, E, q1, q2, q3⟩ := ih (k + 1) (rh_set B1 196 (p + 3 + k) (l.getD k 0)) (by omega) (fun i hi => by
        by_cases e : i = 3 + k
        · subst e
          rw [show p + ((3 + k : Nat) : Int) = p + 3 + k by omega, rh_set_s, List.getD_eq_getElem?_getD, List.getD_eq_getElem?_getD, List.getElem?_append_right (by omega), hl3, show 3 + k - 3 = k by omega]
        · rw [rh_set_j (by omega)]
          exact h1 i (by omega)) (f1.st (by unfold Gsv; omega)) (fun c j hc => by rw [rh_set_a (by omega)]; exact g1 c j hc)
      refine ⟨B2, fun P K => ?_, q1, q2, q3⟩
      refine rh1.of (rX32_save_273 hm _ _ _ ?_)
      rw [e7, e14]
      exact ⟨fun _ => ⟨⟨by omega, by omega⟩, ⟨by omega, by omega⟩, ⟨by omega, by omega⟩, E P K⟩, fun z => by omega⟩
  obtain ⟨B2, E2, q1, q2, q3⟩ := key l.length 0 (mhd B m p kd l.length) (by omega) (fun i hi => by
    rw [by3 i (by omega), List.getD_eq_getElem?_getD, List.getD_eq_getElem?_getD, List.getElem?_append_left (by omega)]) fh (fun _ _ _ => rfl)
  have lnL : (h ++ l).length = 3 + l.length := by rw [List.length_append, hl3]
  have alL : Al (h ++ l) := alh.ap al
  have K := c_sumM hm (B := B2) (p := p) (n := 3 + l.length) (f := fun k => (h ++ l).getD k.toNat 0) p0 ⟨by omega, by omega⟩ (fun k k0 k1 => by
    have := q1 k.toNat (by omega)
    rw [show ((k.toNat : Nat) : Int) = k by omega] at this
    exact ⟨this, alL.gd k.toNat (by omega)⟩)
  rw [show (3 + (l.length : Int)).toNat = (h ++ l).length by omega] at K
  have K2 : eC wm YX32_rowSum 0 [(2, 0), (0, p), (0, 3 + (l.length : Int))] B2 (lsm (h ++ l)) B2 := K
  obtain ⟨s, hs⟩ : ∃ s, s = lsm (h ++ l) := ⟨_, rfl⟩
  rw [← hs] at K2 ⊢
  have g52 : B2 0 252 = m := by
    rw [q3 0 252 (.inl rfl)]
    unfold mhd
    rw [rh_set_a (by decide), rh_set_a (by decide), rh_set_a (by decide), rh_set_a (by decide)]
    exact h52
  have g53 : B2 0 253 = p := by
    rw [q3 0 253 (.inl rfl)]
    unfold mhd
    rw [rh_set_a (by decide), rh_set_a (by decide), rh_set_a (by decide), rh_set_a (by decide)]
    exact h53
  have g77 : B2 0 177 = l.length := by rw [q2 _ _ (by unfold Gsv; omega)]; exact o1
  have g97 : B2 197 m = p := by
    rw [q3 197 m (.inr rfl)]
    unfold mhd
    rw [rh_set_a (by decide), rh_set_a (by decide), rh_set_a (by decide), rh_set_s]
  obtain ⟨n, hn⟩ : ∃ n : Int, n = l.length := ⟨_, rfl⟩
  rw [← hn] at g77
  refine ⟨rh_set (rh_set (rh_set (rh_set (rh_set (rh_set B2 196 (p + 3 + n) (rh_shr s 8)) 196 (p + 4 + n) (rh_and s 255)) 0 253 (p + (n + 5))) 0 252 (m + 1)) 197 (m + 1) (p + (n + 5))) 0 256 1, fun P HP => E2 P ?_, ?_, ?_, rh_set_s _ _ _ _, ?_, ?_, fun i hi => ?_, ?_⟩
  · refine rh1.of (rX32_save_273 hm _ _ _ ?_)
    rw [g77]
    refine ⟨fun z => by omega, fun _ => ?_⟩
    rw [hn]
    refine rh1.s (eS.fx 0 (x := 3 + (l.length : Int)) rfl ⟨by omega, by omega⟩ rfl) ?_
    refine rh1.s (vX32_save_314 hm K2 (LE0 rfl)) ?_
    refine rh1.of (rX32_save_317 hm _ _ _ ?_)
    rw [g77]
    refine ⟨⟨by omega, by omega⟩, fun M3 e3 => ?_⟩
    have a1 : M3 0 177 = n := by rw [e3, rh_set_a (by decide)]; exact g77
    have a2 : M3 0 253 = p := by rw [e3, rh_set_a (by decide)]; exact g53
    have a3 : M3 0 252 = m := by rw [e3, rh_set_a (by decide)]; exact g52
    rw [a1]
    refine ⟨⟨by omega, by omega⟩, fun M4 e4 => ?_⟩
    have c1 : M4 0 177 = n := by rw [e4, rh_set_a (by decide)]; exact a1
    have c2 : M4 0 253 = p := by rw [e4, rh_set_a (by decide)]; exact a2
    have c3 : M4 0 252 = m := by rw [e4, rh_set_a (by decide)]; exact a3
    rw [c1, c2]
    intro y hy
    rw [hy]
    refine ⟨⟨by omega, by omega⟩, ?_⟩
    rw [rh_set_j (by decide), c3]
    intro y2 hy2
    rw [hy2]
    refine ⟨⟨by omega, by omega⟩, fun M5 e5 => ?_⟩
    have d1 : M5 0 252 = m + 1 := by rw [e5, rh_set_s]
    have d2 : M5 0 253 = p + (n + 5) := by rw [e5, rh_set_j (by decide), rh_set_s]
    rw [d1, d2]
    refine ⟨⟨by omega, by omega⟩, by decide, fun M6 e6 => ?_⟩
    have d3 : M6 0 252 = m + 1 := by rw [e6, rh_set_j (by decide), rh_set_a (by decide)]; exact d1
    rw [d3]
    refine ⟨⟨by omega, by omega⟩, ?_⟩
    rw [show m + 1 - 1 = m by omega, e6, e5, e4, e3]
    exact HP
  · rw [rh_set_j (by decide), rh_set_a (by decide), rh_set_s]
  · rw [rh_set_j (by decide), rh_set_a (by decide), rh_set_j (by decide), rh_set_s]
    omega
  · rw [rh_set_a (by decide), rh_set_j (by omega), rh_set_a (by decide), rh_set_a (by decide), rh_set_a (by decide), rh_set_a (by decide)]
    exact g97
  · rw [rh_set_a (by decide), rh_set_s]
    omega
  · rw [rh_set_a (by decide), rh_set_a (by decide), rh_set_a (by decide), rh_set_a (by decide)]
    have lnM : (h ++ l ++ [rh_shr s 8]).length = 4 + l.length := by rw [List.length_append, lnL, List.length_singleton]; omega
    by_cases e1 : i = 4 + l.length
    · subst e1
      rw [show p + ((4 + l.length : Nat) : Int) = p + 4 + n by omega, rh_set_s, ← lnM, gdb]
    · rw [rh_set_j (by omega), gda (by omega)]
      by_cases e2 : i = 3 + l.length
      · subst e2
        rw [show p + ((3 + l.length : Nat) : Int) = p + 3 + n by omega, rh_set_s, ← lnL, gdb]
      · rw [rh_set_j (by omega), gda (by omega)]
        exact q1 i (by omega)
  · exact (((((q2.st (by unfold Gsv; omega)).st (by unfold Gsv; omega)).st (by unfold Gsv; omega)).st (by unfold Gsv; omega)).st (by unfold Gsv; omega)).st (by unfold Gsv; omega)
end Stor
