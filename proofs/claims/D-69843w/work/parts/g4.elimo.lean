/-! ===== pure: one column more; what comes out ===== -/
section ElimO
theorem giv_u {b v : Int} (hb : 1 ≤ b ∧ b < 16) (hv : 0 ≤ v ∧ v < 16) (e : gfm v b = 1) : v = giv b := by
  have h := of_decide_eq_true (g16b (p := fun b v => decide (1 ≤ b → gfm v b = 1 → v = giv b)) (by decide +kernel) (show 0 ≤ b ∧ b < 16 by omega) hv)
  exact h hb.1 e
theorem Elm.rd {H S : Int → Int → Int} {s : Int → Int} {n : Int} {m : Nat} {k : Int} (E : Elm H S s n m k) (hk : 0 ≤ k ∧ k < n ∧ k < m) (hm : m ≤ 8) (hs : ∀ c : Int, 0 ≤ c → c < m → R16 (s c)) (hp : H k k ≠ 0) : Elm (clr H k) (red S k) s n m (k + 1) := by
  obtain ⟨E1, E2, ⟨d, d1, d2⟩, E3, E4⟩ := E
  have dk := (d1 k hk.1 hk.2.1).2 (Int.le_refl _)
  have hkk := E2 k k hk.1 hk.2.1 hk.1 (by omega)
  have hk1 : 1 ≤ H k k ∧ H k k < 16 := by unfold R16 at hkk; omega
  have hS : ∀ e c : Int, 0 ≤ e → e < n → 0 ≤ c → c < m → S e c = gfm (d e) (H e c) := fun e c e0 e1 c0 c1 => by
    rw [← d2 e c e0 e1 c0 (by omega)]
    exact (if_neg (by omega)).symm
  have hKm : ∀ c : Int, 0 ≤ c → c ≤ m → hat S s m k c = H k c := fun c c0 c1 => by
    rw [d2 k c hk.1 hk.2.1 c0 c1, dk, (gfm_0 (E2 k c hk.1 hk.2.1 c0 c1)).2.2.1]
  have skk : S k k = H k k := by rw [hS k k hk.1 hk.2.1 hk.1 hk.2.2, dk, (gfm_0 hkk).2.2.1]
  obtain ⟨g, hg⟩ : ∃ g, g = giv (H k k) := ⟨_, rfl⟩
  obtain ⟨g1, g2, g3, -⟩ := giv_e hk1
  rw [← hg] at g1 g2 g3
  have gr : R16 g := by unfold R16; omega
  have ck : ∀ c, clr H k k c = H k c := fun c => if_pos rfl
  have co : ∀ e c : Int, e ≠ k → clr H k e c = rh_xor (H e c) (gfm (gfm (H e k) g) (H k c)) := fun e c h => by rw [hg]; exact if_neg h
  have rk : ∀ c, red S k k c = gfm g (S k c) := fun c => by rw [hg, ← skk]; exact if_pos rfl
  have ro : ∀ e c : Int, e ≠ k → red S k e c = rh_xor (S e c) (gfm (S e k) (gfm g (S k c))) := fun e c h => by rw [hg, ← skk]; exact if_neg h
  refine ⟨fun e c e0 e1 c0 c1 => ?_, fun e c e0 e1 c0 c1 => ?_, ⟨fun e => if e = k then g else d e, fun e e0 e1 => ?_, fun e c e0 e1 c0 c1 => ?_⟩, fun e c e0 e1 c0 c1 ec => ?_, fun c c0 c1 => ?_⟩
  · by_cases z : e = k
    · rw [z, rk]; exact gfm_r gr (E1 k c hk.1 hk.2.1 c0 c1)
    · rw [ro e c z]; exact xor_r (E1 e c e0 e1 c0 c1) (gfm_r (E1 e k e0 e1 hk.1 (by omega)) (gfm_r gr (E1 k c hk.1 hk.2.1 c0 c1)))
  · by_cases z : e = k
    · rw [z, ck]; exact E2 k c hk.1 hk.2.1 c0 c1
    · rw [co e c z]; exact xor_r (E2 e c e0 e1 c0 c1) (gfm_r (gfm_r (E2 e k e0 e1 hk.1 (by omega)) gr) (E2 k c hk.1 hk.2.1 c0 c1))
  · show (1 ≤ (if e = k then g else d e) ∧ (if e = k then g else d e) < 16) ∧ (k + 1 ≤ e → (if e = k then g else d e) = 1)
    by_cases z : e = k
    · rw [if_pos z]; exact ⟨g1, fun y => by omega⟩
    · rw [if_neg z]; exact ⟨(d1 e e0 e1).1, fun y => (d1 e e0 e1).2 (by omega)⟩
  · show hat (red S k) s m e c = gfm (if e = k then g else d e) (clr H k e c)
    rw [hat_red hm hs E1 hk (by rw [skk]; exact hk1) e0 e1 c0 c1, skk, ← hg, hKm c c0 c1]
    by_cases z : e = k
    · rw [if_pos z, if_pos z, z, ck]
    · have de : R16 (d e) := by have := (d1 e e0 e1).1; unfold R16; omega
      have hec := E2 e c e0 e1 c0 c1
      have hek := E2 e k e0 e1 hk.1 (by omega)
      have hkc := E2 k c hk.1 hk.2.1 c0 c1
      rw [if_neg z, if_neg z, co e c z, d2 e c e0 e1 c0 c1, hS e k e0 e1 hk.1 hk.2.2, gfm_x de hec (gfm_r (gfm_r hek gr) hkc), gfm_as hek gr hkc, ← gfm_as de hek (gfm_r gr hkc)]
  · by_cases z : c = k
    · have ek : e ≠ k := fun y => ec (y.trans z.symm)
      have hek := E2 e k e0 e1 hk.1 (by omega)
      rw [z, co e k ek, gfm_as hek gr hkk, g3, (gfm_0 hek).2.2.2, (xor_0 hek).2.2]
    · have kc := E3 k c hk.1 hk.2.1 c0 (by omega) (fun y => z y.symm)
      by_cases ek : e = k
      · rw [ek, ck]; exact kc
      · rw [co e c ek, E3 e c e0 e1 c0 (by omega) ec, kc, (gfm_0 (gfm_r (E2 e k e0 e1 hk.1 (by omega)) gr)).2.1, (xor_0 r16_0).1]
  · by_cases z : c = k
    · rw [z, ck, rk, skk, g3]
      exact ⟨hp, rfl⟩
    · have kc := E3 k c hk.1 hk.2.1 c0 (by omega) (fun y => z y.symm)
      have cn : c < n := by omega
      have skc : S k c = 0 := by rw [hS k c hk.1 hk.2.1 c0 (by omega), kc, dk, (gfm_0 r16_0).1 |> fun _ => (gfm_0 (show R16 1 by unfold R16; decide)).2.1]
      have E := E4 c c0 (by omega)
      rw [co c c z, ro c c z, kc, skc, (gfm_0 (gfm_r (E2 c k c0 cn hk.1 (by omega)) gr)).2.1, (gfm_0 gr).2.1, (gfm_0 (E1 c k c0 cn hk.1 (by omega))).2.1, (xor_0 (E2 c c c0 cn c0 (by omega))).2.1, (xor_0 (E1 c c c0 cn c0 (by omega))).2.1]
      exact E
theorem xs_0 {s row : Int → Int} : ∀ m : Nat, (∀ c : Int, 0 ≤ c → c < m → R16 (s c)) → (∀ c : Int, 0 ≤ c → c < m → row c = 0) → xs s row m = 0
  | 0, _, _ => rfl
  | m + 1, h1, h2 => by
    show rh_xor (xs s row m) (gfm (s m) (row m)) = 0
    rw [xs_0 m (fun c c0 c1 => h1 c c0 (by omega)) (fun c c0 c1 => h2 c c0 (by omega)), h2 m (by omega) (by omega), (gfm_0 (h1 m (by omega) (by omega))).2.1, (xor_0 r16_0).1]
theorem xs_1 {s row : Int → Int} {e : Int} (e0 : 0 ≤ e) : ∀ m : Nat, e < m → (∀ c : Int, 0 ≤ c → c < m → R16 (s c)) → (∀ c : Int, 0 ≤ c → c < m → c ≠ e → row c = 0) → row e = 1 → xs s row m = s e
  | 0, h, _, _, _ => by omega
  | m + 1, h, h1, h2, h3 => by
    show rh_xor (xs s row m) (gfm (s m) (row m)) = s e
    by_cases z : (m : Int) = e
    · rw [xs_0 m (fun c c0 c1 => h1 c c0 (by omega)) (fun c c0 c1 => h2 c c0 (by omega) (by omega)), z, h3, (gfm_0 (h1 e e0 (by omega))).2.2.2, (xor_0 (h1 e e0 (by omega))).1]
    · rw [xs_1 e0 m (by omega) (fun c c0 c1 => h1 c c0 (by omega)) (fun c c0 c1 => h2 c c0 (by omega)) h3, h2 m (by omega) (by omega) z, (gfm_0 (h1 m (by omega) (by omega))).2.1, (xor_0 (h1 e e0 (by omega))).2.1]
/-- what is due below; the numbers -/
theorem Elm.fin {H S : Int → Int → Int} {s : Int → Int} {n : Int} {m : Nat} (E : Elm H S s n m m) (hm : m ≤ 8) (hmn : (m : Int) ≤ n) (hs : ∀ c : Int, 0 ≤ c → c < m → R16 (s c)) : (∀ e : Int, (m : Int) ≤ e → e < n → S e 8 = H e m) ∧ ∀ e : Int, 0 ≤ e → e < m → S e 8 = rh_xor (s e) (gfm (H e m) (giv (H e e))) := by
  obtain ⟨E1, E2, ⟨d, d1, d2⟩, E3, E4⟩ := E
  have hS : ∀ e c : Int, 0 ≤ e → e < n → 0 ≤ c → c < m → S e c = gfm (d e) (H e c) := fun e c e0 e1 c0 c1 => by
    rw [← d2 e c e0 e1 c0 (by omega)]
    exact (if_neg (by omega)).symm
  have h8 : ∀ e : Int, 0 ≤ e → e < n → rh_xor (S e 8) (xs s (S e) m) = gfm (d e) (H e m) := fun e e0 e1 => by
    rw [← d2 e m e0 e1 (by omega) (Int.le_refl _)]
    exact (if_pos rfl).symm
  refine ⟨fun e e0 e1 => ?_, fun e e0 e1 => ?_⟩
  · have q := h8 e (by omega) e1
    have de := (d1 e (by omega) e1).2 e0
    rw [xs_0 m hs (fun c c0 c1 => by rw [hS e c (by omega) e1 c0 c1, E3 e c (by omega) e1 c0 c1 (by omega), de]; exact (gfm_0 (show R16 1 by unfold R16; decide)).2.1), (xor_0 (E1 e 8 (by omega) e1 (by decide) (by decide))).2.1, de, (gfm_0 (E2 e m (by omega) e1 (by omega) (Int.le_refl _))).2.2.1] at q
    exact q
  · have q := h8 e e0 (by omega)
    obtain ⟨p1, p2⟩ := E4 e e0 e1
    have dr : R16 (d e) := by have := (d1 e e0 (by omega)).1; unfold R16; omega
    have her := E2 e e e0 (by omega) e0 (by omega)
    have he1 : 1 ≤ H e e ∧ H e e < 16 := by unfold R16 at her; omega
    have dg : d e = giv (H e e) := giv_u he1 dr (by rw [← hS e e e0 (by omega) e0 e1]; exact p2)
    have hem := E2 e m e0 (by omega) (by omega) (Int.le_refl _)
    have s8 := E1 e 8 e0 (by omega) (by decide) (by decide)
    have se := hs e e0 e1
    rw [xs_1 e0 m e1 hs (fun c c0 c1 ce => by rw [hS e c e0 (by omega) c0 c1, E3 e c e0 (by omega) c0 c1 (fun y => ce y.symm)]; exact (gfm_0 dr).2.1) p2] at q
    rw [← gfm_c (by rw [← dg]; exact dr) hem, ← dg, ← q, xor_c s8 se, ← xor_as se se s8, (xor_0 se).2.2, (xor_0 s8).1]
theorem xs_z {s row : Int → Int} : ∀ m : Nat, (∀ c : Int, 0 ≤ c → c < m → gfm (s c) (row c) = 0) → xs s row m = 0
  | 0, _ => rfl
  | m + 1, h => by
    show rh_xor (xs s row m) (gfm (s m) (row m)) = 0
    rw [xs_z m (fun c c0 c1 => h c c0 (by omega)), h m (by omega) (by omega), (xor_0 r16_0).1]
theorem xs_o {s row : Int → Int} {e : Int} (e0 : 0 ≤ e) (he : R16 (gfm (s e) (row e))) : ∀ m : Nat, e < m → (∀ c : Int, 0 ≤ c → c < m → c ≠ e → gfm (s c) (row c) = 0) → xs s row m = gfm (s e) (row e)
  | 0, h, _ => by omega
  | m + 1, h, h2 => by
    show rh_xor (xs s row m) (gfm (s m) (row m)) = gfm (s e) (row e)
    by_cases z : (m : Int) = e
    · rw [xs_z m (fun c c0 c1 => h2 c c0 (by omega) (by omega)), z, (xor_0 he).1]
    · rw [xs_o e0 he m (by omega) (fun c c0 c1 => h2 c c0 (by omega)), h2 m (by omega) (by omega) z, (xor_0 he).2.1]
theorem xs_2 {s row : Int → Int} {e k : Int} (e0 : 0 ≤ e) (ek : e < k) (he : R16 (gfm (s e) (row e))) (hk : R16 (gfm (s k) (row k))) : ∀ m : Nat, k < m → (∀ c : Int, 0 ≤ c → c < m → c ≠ e → c ≠ k → gfm (s c) (row c) = 0) → xs s row m = rh_xor (gfm (s e) (row e)) (gfm (s k) (row k))
  | 0, h, _ => by omega
  | m + 1, h, h2 => by
    show rh_xor (xs s row m) (gfm (s m) (row m)) = _
    by_cases z : (m : Int) = k
    · rw [xs_o e0 he m (by omega) (fun c c0 c1 c2 => h2 c c0 (by omega) c2 (by omega)), z]
    · rw [xs_2 e0 ek he hk m (by omega) (fun c c0 c1 => h2 c c0 (by omega)), h2 m (by omega) (by omega) (by omega) z, (xor_0 (xor_r he hk)).2.1]
/-- what all rows send to nought -/
def Ker (x : Int → Int) (S : Int → Int → Int) (n : Int) (m : Nat) : Prop := ∀ e, 0 ≤ e → e < n → xs x (S e) m = 0
def Kex (S : Int → Int → Int) (n : Int) (m : Nat) : Prop := ∃ x : Int → Int, (∀ c : Int, 0 ≤ c → c < m → R16 (x c)) ∧ (∃ c : Nat, c < m ∧ x c = 1) ∧ Ker x S n m
theorem Kex.sw {S : Int → Int → Int} {n : Int} {m : Nat} {k p : Int} (h : Kex (swp S k p) n m) (hk : 0 ≤ k ∧ k < n) (hp : 0 ≤ p ∧ p < n) : Kex S n m := by
  obtain ⟨x, x1, x2, x3⟩ := h
  refine ⟨x, x1, x2, fun e e0 e1 => ?_⟩
  by_cases z : e = k
  · rw [z]; exact (xs_e m (fun c _ _ => swp_p.symm)).trans (x3 p hp.1 hp.2)
  · by_cases z2 : e = p
    · rw [z2]; exact (xs_e m (fun c _ _ => swp_u.symm)).trans (x3 k hk.1 hk.2)
    · exact (xs_e m (fun c _ _ => (swp_o z z2).symm)).trans (x3 e e0 e1)
theorem Kex.rd {S : Int → Int → Int} {n : Int} {m : Nat} {k : Int} (h : Kex (red S k) n m) (hS : S16 S n) (hm : m ≤ 8) (hk : 0 ≤ k ∧ k < n ∧ k < m) (hkk : 1 ≤ S k k ∧ S k k < 16) : Kex S n m := by
  obtain ⟨x, x1, x2, x3⟩ := h
  obtain ⟨g1, -, g3, -⟩ := giv_e hkk
  have gi : R16 (giv (S k k)) := by unfold R16; omega
  have bi : R16 (S k k) := by unfold R16; omega
  have rk : ∀ c : Int, 0 ≤ c → c < m → R16 (S k c) := fun c c0 c1 => hS k c hk.1 hk.2.1 c0 (by omega)
  have xk := xs_r m x1 rk
  have a0 : xs x (S k) m = 0 := by
    have q := x3 k hk.1 hk.2.1
    rw [xs_e (r1 := red S k k) (r2 := fun c => gfm (giv (S k k)) (S k c)) m (fun c _ _ => if_pos rfl), xs_g gi m x1 rk] at q
    have t : gfm (S k k) (gfm (giv (S k k)) (xs x (S k) m)) = xs x (S k) m := by
      rw [← gfm_as bi gi xk, gfm_c bi gi, g3, (gfm_0 xk).2.2.1]
    rw [q, (gfm_0 bi).2.1] at t
    exact t.symm
  refine ⟨x, x1, x2, fun e e0 e1 => ?_⟩
  by_cases z : e = k
  · rw [z]; exact a0
  · have re : ∀ c : Int, 0 ≤ c → c < m → R16 (S e c) := fun c c0 c1 => hS e c e0 e1 c0 (by omega)
    have ek := re k hk.1 hk.2.2
    have q := x3 e e0 e1
    rw [xs_e (r1 := red S k e) (r2 := fun c => rh_xor (S e c) (gfm (S e k) (gfm (giv (S k k)) (S k c)))) m (fun c _ _ => if_neg z), xs_x m x1 re (fun c c0 c1 => gfm_r ek (gfm_r gi (rk c c0 c1))), xs_g (row := fun c => gfm (giv (S k k)) (S k c)) ek m x1 (fun c c0 c1 => gfm_r gi (rk c c0 c1)), xs_g gi m x1 rk, a0, (gfm_0 gi).2.1, (gfm_0 ek).2.1, (xor_0 (xs_r m x1 re)).2.1] at q
    exact q
/-- no pivot: something goes to nought -/
theorem Elm.no {H S : Int → Int → Int} {s : Int → Int} {n : Int} {m : Nat} {k : Int} (E : Elm H S s n m k) (hk : 0 ≤ k ∧ k < m) (hm : m ≤ 8) (hmn : (m : Int) ≤ n) (h : ∀ e, k ≤ e → e < n → H e k = 0) : Kex S n m := by
  obtain ⟨E1, E2, ⟨d, d1, d2⟩, E3, E4⟩ := E
  have r1 : R16 1 := by unfold R16; decide
  have dr : ∀ e, 0 ≤ e → e < n → R16 (d e) := fun e e0 e1 => by have := (d1 e e0 e1).1; unfold R16; omega
  have hS : ∀ e c : Int, 0 ≤ e → e < n → 0 ≤ c → c < m → S e c = gfm (d e) (H e c) := fun e c e0 e1 c0 c1 => by
    rw [← d2 e c e0 e1 c0 (by omega)]
    exact (if_neg (by omega)).symm
  obtain ⟨x, hx⟩ : ∃ x : Int → Int, x = fun c => if c = k then 1 else if c < k then S c k else 0 := ⟨_, rfl⟩
  have xk : x k = 1 := by rw [hx]; exact if_pos rfl
  have xl : ∀ c : Int, c < k → x c = S c k := fun c c1 => by rw [hx]; show (if c = k then 1 else if c < k then S c k else 0) = _; rw [if_neg (by omega), if_pos c1]
  have xg : ∀ c : Int, k < c → x c = 0 := fun c c1 => by rw [hx]; show (if c = k then 1 else if c < k then S c k else 0) = _; rw [if_neg (by omega), if_neg (by omega)]
  have xr : ∀ c : Int, 0 ≤ c → c < m → R16 (x c) := fun c c0 c1 => by
    by_cases z : c = k
    · rw [z, xk]; exact r1
    · by_cases z2 : c < k
      · rw [xl c z2]; exact E1 c k c0 (by omega) hk.1 (by omega)
      · rw [xg c (by omega)]; exact r16_0
  refine ⟨x, xr, ⟨k.toNat, by omega, by rw [show ((k.toNat : Nat) : Int) = k by omega]; exact xk⟩, fun e e0 e1 => ?_⟩
  have sz : ∀ c : Int, 0 ≤ c → c < k → c ≠ e → S e c = 0 := fun c c0 c1 c2 => by
    rw [hS e c e0 e1 c0 (by omega), E3 e c e0 e1 c0 c1 (fun y => c2 y.symm), (gfm_0 (dr e e0 e1)).2.1]
  have tz : ∀ c : Int, 0 ≤ c → c < m → c ≠ e → c ≠ k → gfm (x c) (S e c) = 0 := fun c c0 c1 c2 c3 => by
    by_cases z : c < k
    · rw [sz c c0 z c2, (gfm_0 (xr c c0 c1)).2.1]
    · rw [xg c (by omega), (gfm_0 (E1 e c e0 e1 c0 (by omega))).1]
  have tk : gfm (x k) (S e k) = S e k := by rw [xk, (gfm_0 (E1 e k e0 e1 hk.1 (by omega))).2.2.1]
  by_cases q : e < k
  · have te : gfm (x e) (S e e) = S e k := by rw [(E4 e e0 q).2, xl e q, (gfm_0 (E1 e k e0 e1 hk.1 (by omega))).2.2.2]
    have rr := E1 e k e0 e1 hk.1 (by omega)
    rw [xs_2 e0 q (by rw [te]; exact rr) (by rw [tk]; exact rr) m hk.2 tz, te, tk, (xor_0 rr).2.2]
  · have z0 : S e k = 0 := by rw [hS e k e0 e1 hk.1 hk.2, h e (by omega) e1, (gfm_0 (dr e e0 e1)).2.1]
    refine xs_z m (fun c c0 c1 => ?_)
    by_cases z : c = k
    · rw [z, tk, z0]
    · by_cases z2 : c < k
      · rw [sz c c0 z2 (by omega), (gfm_0 (xr c c0 c1)).2.1]
      · rw [xg c (by omega), (gfm_0 (E1 e c e0 e1 c0 (by omega))).1]
/-- numbers that answer all rows -/
def Sol (y : Int → Int) (S : Int → Int → Int) (n : Int) (m : Nat) : Prop := ∀ e, 0 ≤ e → e < n → xs y (S e) m = S e 8
theorem Sol.sw1 {y : Int → Int} {S : Int → Int → Int} {n : Int} {m : Nat} {k p : Int} (h : Sol y S n m) (hk : 0 ≤ k ∧ k < n) (hp : 0 ≤ p ∧ p < n) : Sol y (swp S k p) n m := fun e e0 e1 => by
  by_cases z : e = k
  · rw [z, swp_u]; exact (xs_e m (fun c _ _ => swp_u)).trans (h p hp.1 hp.2)
  · by_cases z2 : e = p
    · rw [z2, swp_p]; exact (xs_e m (fun c _ _ => swp_p)).trans (h k hk.1 hk.2)
    · rw [swp_o z z2]; exact (xs_e m (fun c _ _ => swp_o z z2)).trans (h e e0 e1)
theorem Sol.sw2 {y : Int → Int} {S : Int → Int → Int} {n : Int} {m : Nat} {k p : Int} (h : Sol y (swp S k p) n m) (hk : 0 ≤ k ∧ k < n) (hp : 0 ≤ p ∧ p < n) : Sol y S n m := fun e e0 e1 => by
  by_cases z : e = k
  · have q := h p hp.1 hp.2
    rw [swp_p, xs_e (r2 := S k) m (fun c _ _ => swp_p)] at q
    rw [z]; exact q
  · by_cases z2 : e = p
    · have q := h k hk.1 hk.2
      rw [swp_u, xs_e (r2 := S p) m (fun c _ _ => swp_u)] at q
      rw [z2]; exact q
    · have q := h e e0 e1
      rw [swp_o z z2, xs_e (r2 := S e) m (fun c _ _ => swp_o z z2)] at q
      exact q
theorem xor_cn {a b c : Int} (ha : R16 a) (hb : R16 b) (hc : R16 c) : rh_xor a c = rh_xor b c → a = b := of_decide_eq_true (g16c (p := fun a b c => decide (rh_xor a c = rh_xor b c → a = b)) (by decide +kernel) ha hb hc)
theorem Sol.rd {y : Int → Int} {S : Int → Int → Int} {n : Int} {m : Nat} {k : Int} (hy : ∀ c : Int, 0 ≤ c → c < m → R16 (y c)) (hS : S16 S n) (hm : m ≤ 8) (hk : 0 ≤ k ∧ k < n ∧ k < m) (hkk : 1 ≤ S k k ∧ S k k < 16) : Sol y S n m ↔ Sol y (red S k) n m := by
  obtain ⟨g1, -, g3, -⟩ := giv_e hkk
  have gi : R16 (giv (S k k)) := by unfold R16; omega
  have bi : R16 (S k k) := by unfold R16; omega
  have rk : ∀ c : Int, 0 ≤ c → c < m → R16 (S k c) := fun c c0 c1 => hS k c hk.1 hk.2.1 c0 (by omega)
  have r8 : R16 (S k 8) := hS k 8 hk.1 hk.2.1 (by decide) (by decide)
  have xk := xs_r m hy rk
  have rowk : xs y (red S k k) m = gfm (giv (S k k)) (xs y (S k) m) := by
    rw [xs_e (r1 := red S k k) (r2 := fun c => gfm (giv (S k k)) (S k c)) m (fun c _ _ => if_pos rfl), xs_g gi m hy rk]
  have k8 : red S k k 8 = gfm (giv (S k k)) (S k 8) := if_pos rfl
  have rowe : ∀ e : Int, 0 ≤ e → e < n → e ≠ k → xs y (red S k e) m = rh_xor (xs y (S e) m) (gfm (S e k) (gfm (giv (S k k)) (xs y (S k) m))) := fun e e0 e1 z => by
    have re : ∀ c : Int, 0 ≤ c → c < m → R16 (S e c) := fun c c0 c1 => hS e c e0 e1 c0 (by omega)
    have ek := re k hk.1 hk.2.2
    rw [xs_e (r1 := red S k e) (r2 := fun c => rh_xor (S e c) (gfm (S e k) (gfm (giv (S k k)) (S k c)))) m (fun c _ _ => if_neg z), xs_x m hy re (fun c c0 c1 => gfm_r ek (gfm_r gi (rk c c0 c1))), xs_g (row := fun c => gfm (giv (S k k)) (S k c)) ek m hy (fun c c0 c1 => gfm_r gi (rk c c0 c1)), xs_g gi m hy rk]
  have e8 : ∀ e : Int, e ≠ k → red S k e 8 = rh_xor (S e 8) (gfm (S e k) (gfm (giv (S k k)) (S k 8))) := fun e z => if_neg z
  constructor
  · intro h e e0 e1
    by_cases z : e = k
    · rw [z, rowk, k8, h k hk.1 hk.2.1]
    · rw [rowe e e0 e1 z, e8 e z, h e e0 e1, h k hk.1 hk.2.1]
  · intro h
    have hk0 : xs y (S k) m = S k 8 := by
      have q := h k hk.1 hk.2.1
      rw [rowk, k8] at q
      have t : gfm (S k k) (gfm (giv (S k k)) (xs y (S k) m)) = gfm (S k k) (gfm (giv (S k k)) (S k 8)) := by rw [q]
      rw [← gfm_as bi gi xk, ← gfm_as bi gi r8, gfm_c bi gi, g3, (gfm_0 xk).2.2.1, (gfm_0 r8).2.2.1] at t
      exact t
    intro e e0 e1
    by_cases z : e = k
    · rw [z]; exact hk0
    · have q := h e e0 e1
      rw [rowe e e0 e1 z, e8 e z, hk0] at q
      have re : ∀ c : Int, 0 ≤ c → c < m → R16 (S e c) := fun c c0 c1 => hS e c e0 e1 c0 (by omega)
      exact xor_cn (xs_r m hy re) (hS e 8 e0 e1 (by decide) (by decide)) (gfm_r (re k hk.1 hk.2.2) (gfm_r gi r8)) q
/-- what the last rows say -/
theorem Elm.sol {H S : Int → Int → Int} {s : Int → Int} {n : Int} {m : Nat} (E : Elm H S s n m m) (hm : m ≤ 8) (hmn : (m : Int) ≤ n) {y : Int → Int} (hy : ∀ c : Int, 0 ≤ c → c < m → R16 (y c)) : Sol y S n m ↔ (∀ e : Int, 0 ≤ e → e < m → y e = S e 8) ∧ ∀ e : Int, (m : Int) ≤ e → e < n → S e 8 = 0 := by
  obtain ⟨E1, E2, ⟨d, d1, d2⟩, E3, E4⟩ := E
  have hS : ∀ e c : Int, 0 ≤ e → e < n → 0 ≤ c → c < m → c ≠ e → S e c = 0 := fun e c e0 e1 c0 c1 ne => by
    have q := d2 e c e0 e1 c0 (by omega)
    have dr : R16 (d e) := by have := (d1 e e0 e1).1; unfold R16; omega
    rw [E3 e c e0 e1 c0 c1 (fun z => ne z.symm), (gfm_0 dr).2.1] at q
    rw [← q]
    exact (if_neg (by omega)).symm
  have lo : ∀ e : Int, 0 ≤ e → e < m → xs y (S e) m = y e := fun e e0 e1 => xs_1 e0 m e1 hy (fun c c0 c1 ne => hS e c e0 (by omega) c0 c1 ne) (E4 e e0 e1).2
  have hi : ∀ e : Int, (m : Int) ≤ e → e < n → xs y (S e) m = 0 := fun e e0 e1 => xs_0 m hy (fun c c0 c1 => hS e c (by omega) e1 c0 c1 (by omega))
  constructor
  · exact fun h => ⟨fun e e0 e1 => by rw [← lo e e0 e1]; exact h e e0 (by omega), fun e e0 e1 => by rw [← h e (by omega) e1]; exact hi e e0 e1⟩
  · intro h e e0 e1
    by_cases q : e < m
    · rw [lo e e0 q]; exact h.1 e e0 q
    · rw [hi e (by omega) e1]; exact (h.2 e (by omega) e1).symm
end ElimO
