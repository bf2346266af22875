/-! ===== LAYER 2: op save ===== -/
section Save
variable {wh wm : rhW}
def hd3 (kd n : Int) : List Int := [kd, rh_shr n 8, rh_and n 255]
theorem hd3_e {kd n : Int} (hk : 0 ≤ kd ∧ kd ≤ 255) (hn : 0 ≤ n ∧ n ≤ 65535) : [rh_and kd 255, rh_and (rh_shr n 8) 255, rh_and n 255] = hd3 kd n := by
  unfold hd3
  rw [and_id hk, and_id (shr8_b hn)]
theorem Al.hd {kd n : Int} (hk : 0 ≤ kd ∧ kd ≤ 255) (hn : 0 ≤ n ∧ n ≤ 65535) : Al (hd3 kd n) := (Al.one hk).ap ((Al.one (shr8_b hn)).ap (Al.one (and_bb _)))
/-- the house's row and the model's, both at their ends -/
theorem Rst_new {Mh Mm A B : rhM} {m p kd : Int} {l : List Int} {F G : Int → Int → Prop} (R : Rst Mh Mm) (al : Al l) (hk : 0 ≤ kd ∧ kd ≤ 255) (hl : l.length ≤ 16000) (hm : Mm 0 252 = m) (hp : Mm 0 253 = p) (m1 : m < 40) (room : p + l.length + 5 ≤ 40000) (a1 : A 233 2 = m + 1) (a2 : A 233 3 = 1) (a3 : A 235 (m + 1) = p + (hd3 kd l.length ++ l).length + 2) (a4 : ∀ i : Nat, i < (hd3 kd l.length ++ l).length + 2 → rh_and (A 234 (p + i)) 255 = (hd3 kd l.length ++ l ++ [rh_and (rh_shr (lsm (hd3 kd l.length ++ l)) 8) 255] ++ [rh_and (lsm (hd3 kd l.length ++ l)) 255]).getD i 0 ∧ -128 ≤ A 234 (p + i) ∧ A 234 (p + i) ≤ 127) (fA : frx F Mh A) (hF : ∀ c j, F c j → (c = 234 → p ≤ j) ∧ (c = 235 → j = m + 1)) (b1 : B 0 252 = m + 1) (b2 : B 0 253 = p + l.length + 5) (b3 : B 0 256 = 1) (b4 : B 197 m = p) (b5 : B 197 (m + 1) = p + l.length + 5) (b6 : ∀ i : Nat, i < l.length + 5 → B 196 (p + i) = (hd3 kd l.length ++ l ++ [rh_shr (lsm (hd3 kd l.length ++ l)) 8] ++ [rh_and (lsm (hd3 kd l.length ++ l)) 255]).getD i 0) (gB : frx G Mm B) (hG : ∀ c j, G c j → (c = 196 → p ≤ j) ∧ (c = 197 → j = m ∨ j = m + 1)) : Rst A B := by
  have ln : (hd3 kd l.length ++ l).length = l.length + 3 := by rw [List.length_append]; show 3 + l.length = _; omega
  have alL : Al (hd3 kd l.length ++ l) := (Al.hd hk ⟨by omega, by omega⟩).ap al
  have sb := lsm_b alL (by omega)
  have s8 := shr8_b (v := lsm (hd3 kd l.length ++ l)) ⟨sb.1, by omega⟩
  have alF : Al (hd3 kd l.length ++ l ++ [rh_shr (lsm (hd3 kd l.length ++ l)) 8] ++ [rh_and (lsm (hd3 kd l.length ++ l)) 255]) := (alL.ap (Al.one s8)).ap (Al.one (and_bb _))
  rw [and_id s8] at a4
  rw [ln] at a3 a4
  have lnF : (hd3 kd l.length ++ l ++ [rh_shr (lsm (hd3 kd l.length ++ l)) 8] ++ [rh_and (lsm (hd3 kd l.length ++ l)) 255]).length = l.length + 5 := by rw [List.length_append, List.length_append, ln, List.length_singleton, List.length_singleton]
  obtain ⟨⟨r1, r2, r3⟩, ⟨r4, r5, r6⟩, r7, r8, r9, ⟨r10, r11⟩, r12⟩ := R
  rw [hm] at r1 r2 r3 r6 r7 r9 r10 r11 r12
  have pm : Mm 197 m = p := by rw [← r11]; exact hp
  rw [pm] at r10 r12
  have p0 : 0 ≤ p := by
    have key : ∀ (u : Nat), (u : Int) ≤ m → 0 ≤ Mm 197 u := by
      intro u
      induction u with
      | zero => intro _; show 0 ≤ Mm 197 0; rw [r8]; decide
      | succ u ih =>
        intro hu
        have := ih (by omega)
        have := r9 u (by omega) (by omega)
        rw [show ((u + 1 : Nat) : Int) = (u : Int) + 1 by omega]
        omega
    have := key m.toNat (by omega)
    rw [show ((m.toNat : Nat) : Int) = m by omega, pm] at this
    exact this
  have c97 : ∀ i, 0 ≤ i → i ≤ m → B 197 i = Mm 197 i := fun i i0 i1 => by
    by_cases e : i = m
    · rw [e, b4, pm]
    · exact gB _ _ (fun h => by have := (hG _ _ h).2 rfl; omega)
  refine ⟨⟨by rw [a1, b1], by omega, by omega⟩, ⟨by rw [a2, b3], .inr b3, fun _ => by omega⟩, fun i i0 i1 => ?_, ?_, fun i i0 i1 => ?_, ?_, fun k k0 k1 => ?_⟩
  · rw [b1] at i1
    by_cases e : i = m + 1
    · rw [e, a3, b5]; omega
    · rw [fA _ _ (fun h => by have := (hF _ _ h).2 rfl; omega), c97 i i0 (by omega)]
      exact r7 i i0 (by omega)
  · rw [c97 0 (by decide) r2]; exact r8
  · rw [b1] at i1
    by_cases e : i = m
    · rw [e, b4, b5]; omega
    · rw [c97 i i0 (by omega), c97 (i + 1) (by omega) (by omega)]
      exact r9 i i0 (by omega)
  · rw [b1, b5, b2]
    exact ⟨by omega, rfl⟩
  · rw [b1, b5] at k1
    by_cases e : k < p
    · rw [fA _ _ (fun h => by have := (hF _ _ h).1 rfl; omega), gB _ _ (fun h => by have := (hG _ _ h).1 rfl; omega)]
      exact r12 k k0 e
    · have h1 := a4 (k - p).toNat (by omega)
      have h2 := b6 (k - p).toNat (by omega)
      rw [show p + (((k - p).toNat : Nat) : Int) = k by omega] at h1 h2
      rw [h2]
      exact ⟨h1.1, alF.gd _ (by omega), h1.2⟩
/-- the greys of a page, in order -/
noncomputable def grl (M : rhM) (x : Int) : Nat → List Int
  | 0 => []
  | k + 1 => grl M x k ++ [M 3 (6144 * x + k)]
theorem grl_l {M : rhM} {x : Int} : ∀ k : Nat, (grl M x k).length = k
  | 0 => rfl
  | k + 1 => by simp only [grl]; rw [List.length_append, grl_l k]; rfl
theorem Al.gr {M : rhM} {x : Int} : ∀ k : Nat, (∀ i : Nat, i < k → 0 ≤ M 3 (6144 * x + i) ∧ M 3 (6144 * x + i) ≤ 255) → Al (grl M x k)
  | 0 => fun _ => Al.nil
  | k + 1 => fun h => by
    simp only [grl]
    exact (Al.gr k (fun i hi => h i (by omega))).ap (Al.one (h k (by omega)))
/-- the forms of a face, in order -/
noncomputable def ftl (M : rhM) (f : Int) : Nat → List Int
  | 0 => []
  | k + 1 => ftl M f k ++ [M 68 (19 * f + k)]
noncomputable def fcl (M : rhM) (face : Int) : Nat → List Int
  | 0 => []
  | f + 1 => fcl M face f ++ rh_if (M 63 f = face) ([M 64 f] ++ ftl M f 19) []
theorem ftl_l {M : rhM} {f : Int} : ∀ k : Nat, (ftl M f k).length = k
  | 0 => rfl
  | k + 1 => by simp only [ftl]; rw [List.length_append, ftl_l k]; rfl
theorem fcl_l {M : rhM} {face : Int} : ∀ f : Nat, ((fcl M face f).length : Int) = 20 * ctp (fun i => M 63 i = face) f
  | 0 => rfl
  | f + 1 => by
    have := fcl_l (M := M) (face := face) f
    simp only [fcl]
    rw [List.length_append]
    by_cases h : M 63 f = face
    · rw [rh_if_t h, ctp_t (P := fun i => M 63 i = face) h, List.length_append, ftl_l]
      show (((fcl M face f).length + (1 + 19) : Nat) : Int) = _
      omega
    · rw [rh_if_f h, ctp_f (P := fun i => M 63 i = face) h]
      show (((fcl M face f).length + 0 : Nat) : Int) = _
      omega
theorem Al.ft {M : rhM} {f : Int} : ∀ k : Nat, (∀ i : Nat, i < k → 0 ≤ M 68 (19 * f + i) ∧ M 68 (19 * f + i) ≤ 255) → Al (ftl M f k)
  | 0 => fun _ => Al.nil
  | k + 1 => fun h => by
    simp only [ftl]
    exact (Al.ft k (fun i hi => h i (by omega))).ap (Al.one (h k (by omega)))
theorem Al.fc {M : rhM} {face : Int} : ∀ {N : Nat}, (∀ j : Nat, j < N → (0 ≤ M 64 j ∧ M 64 j ≤ 255) ∧ ∀ k : Nat, k < 19 → 0 ≤ M 68 (19 * j + k) ∧ M 68 (19 * j + k) ≤ 255) → Al (fcl M face N)
  | 0 => fun _ => Al.nil
  | N + 1 => fun h => by
    simp only [fcl]
    refine (Al.fc (fun j hj => h j (by omega))).ap ?_
    by_cases z : M 63 N = face
    · rw [rh_if_t z]
      exact (Al.one (h N (by omega)).1).ap (Al.ft 19 (h N (by omega)).2)
    · rw [rh_if_f z]
      exact Al.nil
theorem ctp_mono {P : Int → Prop} {j N : Nat} (h : j ≤ N) : ctp P j ≤ ctp P N := by
  induction N with
  | zero => rw [show j = 0 by omega]; exact Int.le_refl _
  | succ N ih =>
    by_cases e : j = N + 1
    · rw [e]; exact Int.le_refl _
    · have := ih (by omega)
      by_cases z : P N
      · rw [ctp_t z]; omega
      · rw [ctp_f z]; omega
/-- what the house's store has -/
theorem h_room {Mh Mm : rhM} (R : Rst Mh Mm) : (Mh 233 2 = Mm 0 252 ∧ 0 ≤ Mm 0 252 ∧ Mm 0 252 ≤ 40) ∧ Mh 235 (Mm 0 252) = Mm 0 253 ∧ 0 ≤ Mm 0 253 ∧ Mm 0 253 ≤ 40000 := by
  have mono := R.mono
  obtain ⟨⟨r1, r2, r3⟩, -, r7, r8, r9, ⟨r10, r11⟩, -⟩ := R
  refine ⟨⟨r1, r2, r3⟩, ?_, ?_, by rw [r11]; exact r10⟩
  · rw [r7 _ r2 (Int.le_refl _), r11]
  · rw [r11]
    have := mono (Mm 0 252).toNat 0 (by omega) (by decide)
    rw [r8] at this
    exact this
/-- a page's bytes go into the store -/
theorem h_page (hh : rh_hs wh) {Mh Mm : rhM} (R : Rst Mh Mm) (RP : Rpg Mh Mm) {x : Int} (hx : 0 ≤ x ∧ x < 8) {N : Nat} (hN : Mm 4 x * Mm 5 x = N) (m1 : Mm 0 252 < 40) (room : Mm 0 253 + (2 + N) + 5 ≤ 40000) : ∃ A, eC wh YX1_savePage 3 [(2, 0), (2, 251 + 39 * x)] Mh (Mm 0 252) A ∧ A 233 2 = Mm 0 252 + 1 ∧ A 233 3 = 1 ∧ A 235 (Mm 0 252 + 1) = Mm 0 253 + (hd3 0 (2 + N) ++ ([Mm 4 x] ++ [Mm 5 x] ++ grl Mm x N)).length + 2 ∧ (∀ i : Nat, i < (hd3 0 (2 + N) ++ ([Mm 4 x] ++ [Mm 5 x] ++ grl Mm x N)).length + 2 → rh_and (A 234 (Mm 0 253 + i)) 255 = (hd3 0 (2 + N) ++ ([Mm 4 x] ++ [Mm 5 x] ++ grl Mm x N) ++ [rh_and (rh_shr (lsm (hd3 0 (2 + N) ++ ([Mm 4 x] ++ [Mm 5 x] ++ grl Mm x N))) 8) 255] ++ [rh_and (lsm (hd3 0 (2 + N) ++ ([Mm 4 x] ++ [Mm 5 x] ++ grl Mm x N))) 255]).getD i 0 ∧ -128 ≤ A 234 (Mm 0 253 + i) ∧ A 234 (Mm 0 253 + i) ≤ 127) ∧ frx (Fsw (Mm 0 252) (Mm 0 253)) Mh A := by
  have bl := hs_pg hh hx.1 hx.2
  obtain ⟨⟨r1, r2, r3⟩, r4, r5, r6⟩ := h_room R
  obtain ⟨⟨a1, a2, a3, a4, a5, a6, a7, a8, a9, a10⟩, -⟩ := RP x hx.1 hx.2
  obtain ⟨m, hm⟩ : ∃ m, m = Mm 0 252 := ⟨_, rfl⟩
  obtain ⟨p, hp⟩ : ∃ p, p = Mm 0 253 := ⟨_, rfl⟩
  rw [← hm] at r1 r2 r3 r4 m1 ⊢
  rw [← hp] at r4 r5 r6 room ⊢
  rw [hN] at a7 a8 a10
  have hA : ∀ X : rhM, frx (Fsv m p) Mh X → (X (251 + 39 * x) 1 = Mm 4 x ∧ X (251 + 39 * x) 2 = Mm 5 x) ∧ ∀ k : Int, 0 ≤ k → k < N → rh_and (X (251 + 39 * x + 1) k) 255 = Mm 3 (6144 * x + k) := fun X f => by
    refine ⟨⟨by rw [f _ _ (by unfold Fsv; omega)]; exact a1, by rw [f _ _ (by unfold Fsv; omega)]; exact a2⟩, fun k k0 k1 => ?_⟩
    rw [f _ _ (by unfold Fsv; omega)]
    exact (a10 k k0 k1).1
  obtain ⟨A1, E1, o1, f1⟩ := c_sbeg hh (kd := 0) (n := 2 + N) r1 r4 ⟨r2, m1⟩ r5 (by omega)
  rw [hd3_e (by decide) ⟨by omega, by omega⟩] at o1
  have l3 : (hd3 0 (2 + N)).length = 3 := rfl
  obtain ⟨A2, E2, o2, f2⟩ := c_sadd hh (b := Mm 4 x) o1 ⟨r2, m1⟩ r5 (by rw [l3]; omega)
  rw [and_id ⟨a3, by omega⟩] at o2
  obtain ⟨A3, E3, o3, f3⟩ := c_sadd hh (b := Mm 5 x) o2 ⟨r2, m1⟩ r5 (by rw [List.length_append, l3, List.length_singleton]; omega)
  rw [and_id ⟨a5, by omega⟩] at o3
  have f13 : frx (Fsv m p) Mh A3 := (f1.tr f2).tr f3
  have key : ∀ (u k : Nat) (X : rhM), k + u = N → Sox X m p (hd3 0 (2 + N) ++ [Mm 4 x] ++ [Mm 5 x] ++ grl Mm x k) → frx (Fsv m p) Mh X → ∃ X', (∀ P : Int → rhM → Prop, rh1 wh YX1_savePage 3 54 [(0, 2, 0), (1, 2, 251 + 39 * x), (3, 0, (N : Int))] [] X' P → rh1 wh YX1_savePage 3 54 [(0, 2, 0), (1, 2, 251 + 39 * x), (3, 0, (k : Int))] [] X P) ∧ Sox X' m p (hd3 0 (2 + N) ++ [Mm 4 x] ++ [Mm 5 x] ++ grl Mm x N) ∧ frx (Fsv m p) Mh X' := by
    intro u
    induction u with
    | zero =>
      intro k X hk o f
      have e : k = N := by omega
      subst e
      exact ⟨X, fun P K => K, o, f⟩
    | succ u ih =>
      intro k X hk o f
      obtain ⟨⟨g1, g2⟩, g3⟩ := hA X f
      have ll : (hd3 0 (2 + N) ++ [Mm 4 x] ++ [Mm 5 x] ++ grl Mm x k).length = 5 + k := by
        rw [List.length_append, List.length_append, List.length_append, grl_l]
        show 3 + 1 + 1 + k = _
        omega
      obtain ⟨X1, E, o', f'⟩ := c_sadd hh (b := X (251 + 39 * x + 1) k) o ⟨r2, m1⟩ r5 (by rw [ll]; omega)
      rw [g3 k (by omega) (by omega), List.append_assoc] at o'
      obtain ⟨X', E', o'', f''⟩ := ih (k + 1) X1 (by omega) o' (f.tr f')
      refine ⟨X', fun P K => ?_, o'', f''⟩
      refine rh1.of (rX1_savePage_54 hh _ _ _ bl ?_)
      rw [g1, g2, hN]
      refine ⟨⟨by omega, by omega⟩, fun _ => ⟨⟨by omega, by omega⟩, rh1.s (vX1_savePage_72 hh E (LE0 rfl)) ?_⟩, fun z => by omega⟩
      refine rh1.of (rX1_savePage_75 hh _ _ _ bl ?_)
      exact ⟨⟨by omega, by omega⟩, E' P K⟩
  obtain ⟨A4, E4, o4, f4⟩ := key N 0 A3 (by omega) (by simp only [grl]; rw [List.append_nil]; exact o3) f13
  have eL : hd3 0 (2 + N) ++ [Mm 4 x] ++ [Mm 5 x] ++ grl Mm x N = hd3 0 (2 + N) ++ ([Mm 4 x] ++ [Mm 5 x] ++ grl Mm x N) := by simp only [List.append_assoc]
  rw [eL] at o4
  have alL : Al (hd3 0 (2 + N) ++ ([Mm 4 x] ++ [Mm 5 x] ++ grl Mm x N)) := (Al.hd (by decide) ⟨by omega, by omega⟩).ap (((Al.one ⟨a3, by omega⟩).ap (Al.one ⟨a5, by omega⟩)).ap (Al.gr N (fun i hi => by have := a10 i (by omega) (by omega); exact this.2)))
  have lL : (hd3 0 (2 + N) ++ ([Mm 4 x] ++ [Mm 5 x] ++ grl Mm x N)).length = 5 + N := by
    rw [List.length_append, List.length_append, List.length_append, grl_l]
    show 3 + (1 + 1 + N) = _
    omega
  obtain ⟨A5, E5, q1, q2, q3, q4, f5⟩ := c_send hh o4 alL ⟨r2, m1⟩ r5 (by rw [lL]; omega)
  refine ⟨A5, eC.of1 (rC1.of (by decide) (LE0 rfl) ?_), q1, q2, q3, fun i hi => q4 i hi, (f4.w (fun c j h => .inl h)).tr f5⟩
  refine rh1.of (rX1_savePage_0 hh _ _ bl ?_)
  rw [a1, a2, hN, r1, r4]
  refine ⟨⟨by omega, by omega⟩, fun y hy => ?_⟩
  rw [hy]
  refine ⟨⟨by omega, by omega⟩, fun _ => ⟨by omega, by omega⟩, fun _ => ⟨by omega, by omega⟩, fun z => absurd ⟨m1, by omega⟩ z, fun _ => ?_⟩
  refine rh1.s (vX1_savePage_27 hh E1 (LE0 rfl)) ?_
  refine rh1.of (rX1_savePage_30 hh _ _ bl ?_)
  rw [(hA A1 f1).1.1]
  refine rh1.s (vX1_savePage_38 hh E2 (LE0 rfl)) ?_
  refine rh1.of (rX1_savePage_41 hh _ _ bl ?_)
  rw [(hA A2 (f1.tr f2)).1.2]
  refine rh1.s (vX1_savePage_49 hh E3 (LE0 rfl)) ?_
  refine rh1.of (rX1_savePage_52 hh _ _ bl ?_)
  refine E4 _ ?_
  obtain ⟨⟨g1, g2⟩, -⟩ := hA A4 f4
  refine rh1.of (rX1_savePage_54 hh _ _ _ bl ?_)
  rw [g1, g2, hN]
  refine ⟨⟨by omega, by omega⟩, fun z => by omega, fun _ => rh1.s (vX1_savePage_85 hh E5 (LE0 rfl)) ?_⟩
  refine rh1.of (rX1_savePage_88 hh _ _ ?_)
  exact ⟨rfl, rfl⟩
end Save
