/-! ===== pure: two ways of elimination side by side ===== -/
section Elim
/-- a sum of products along a row -/
def xs (s row : Int → Int) : Nat → Int
  | 0 => 0
  | c + 1 => rh_xor (xs s row c) (gfm (s c) (row c))
theorem r16_0 : R16 0 := by unfold R16; decide
theorem xs_r {s row : Int → Int} : ∀ m : Nat, (∀ c : Int, 0 ≤ c → c < m → R16 (s c)) → (∀ c : Int, 0 ≤ c → c < m → R16 (row c)) → R16 (xs s row m)
  | 0, _, _ => r16_0
  | m + 1, h1, h2 => xor_r (xs_r m (fun c c0 c1 => h1 c c0 (by omega)) (fun c c0 c1 => h2 c c0 (by omega))) (gfm_r (h1 m (by omega) (by omega)) (h2 m (by omega) (by omega)))
theorem xs_e {s r1 r2 : Int → Int} : ∀ m : Nat, (∀ c : Int, 0 ≤ c → c < m → r1 c = r2 c) → xs s r1 m = xs s r2 m
  | 0, _ => rfl
  | m + 1, h => by
    show rh_xor (xs s r1 m) (gfm (s m) (r1 m)) = rh_xor (xs s r2 m) (gfm (s m) (r2 m))
    rw [xs_e m (fun c c0 c1 => h c c0 (by omega)), h m (by omega) (by omega)]
theorem xs_g {s row : Int → Int} {a : Int} (ha : R16 a) : ∀ m : Nat, (∀ c : Int, 0 ≤ c → c < m → R16 (s c)) → (∀ c : Int, 0 ≤ c → c < m → R16 (row c)) → xs s (fun c => gfm a (row c)) m = gfm a (xs s row m)
  | 0, _, _ => ((gfm_0 ha).2.1).symm
  | m + 1, h1, h2 => by
    show rh_xor (xs s (fun c => gfm a (row c)) m) (gfm (s m) (gfm a (row m))) = gfm a (rh_xor (xs s row m) (gfm (s m) (row m)))
    have hs := h1 m (by omega) (by omega)
    have hr := h2 m (by omega) (by omega)
    rw [xs_g ha m (fun c c0 c1 => h1 c c0 (by omega)) (fun c c0 c1 => h2 c c0 (by omega)), gfm_x ha (xs_r m (fun c c0 c1 => h1 c c0 (by omega)) (fun c c0 c1 => h2 c c0 (by omega))) (gfm_r hs hr), ← gfm_as hs ha hr, ← gfm_as ha hs hr, gfm_c hs ha]
theorem x4 {a b c d : Int} (ha : R16 a) (hb : R16 b) (hc : R16 c) (hd : R16 d) : rh_xor (rh_xor a b) (rh_xor c d) = rh_xor (rh_xor a c) (rh_xor b d) := by
  rw [xor_as ha hb (xor_r hc hd), ← xor_as hb hc hd, xor_c hb hc, xor_as hc hb hd, ← xor_as ha hc (xor_r hb hd)]
theorem xs_x {s r1 r2 : Int → Int} : ∀ m : Nat, (∀ c : Int, 0 ≤ c → c < m → R16 (s c)) → (∀ c : Int, 0 ≤ c → c < m → R16 (r1 c)) → (∀ c : Int, 0 ≤ c → c < m → R16 (r2 c)) → xs s (fun c => rh_xor (r1 c) (r2 c)) m = rh_xor (xs s r1 m) (xs s r2 m)
  | 0, _, _, _ => ((xor_0 r16_0).1).symm
  | m + 1, h1, h2, h3 => by
    show rh_xor (xs s (fun c => rh_xor (r1 c) (r2 c)) m) (gfm (s m) (rh_xor (r1 m) (r2 m))) = rh_xor (rh_xor (xs s r1 m) (gfm (s m) (r1 m))) (rh_xor (xs s r2 m) (gfm (s m) (r2 m)))
    have hs := h1 m (by omega) (by omega)
    have ha := h2 m (by omega) (by omega)
    have hb := h3 m (by omega) (by omega)
    have q1 := xs_r m (fun c c0 c1 => h1 c c0 (by omega)) (fun c c0 c1 => h2 c c0 (by omega))
    have q2 := xs_r m (fun c c0 c1 => h1 c c0 (by omega)) (fun c c0 c1 => h3 c c0 (by omega))
    rw [xs_x m (fun c c0 c1 => h1 c c0 (by omega)) (fun c c0 c1 => h2 c c0 (by omega)) (fun c c0 c1 => h3 c c0 (by omega)), gfm_x hs ha hb, x4 q1 q2 (gfm_r hs ha) (gfm_r hs hb)]
/-- the model's rows with what is due at m -/
def hat (S : Int → Int → Int) (s : Int → Int) (m : Nat) (e c : Int) : Int := if c = m then rh_xor (S e 8) (xs s (S e) m) else S e c
def S16 (S : Int → Int → Int) (n : Int) : Prop := ∀ e c : Int, 0 ≤ e → e < n → 0 ≤ c → c < 9 → R16 (S e c)
theorem hat_r {S : Int → Int → Int} {s : Int → Int} {m : Nat} {n : Int} (hm : m ≤ 8) (hs : ∀ c : Int, 0 ≤ c → c < m → R16 (s c)) (hS : S16 S n) {e c : Int} (e0 : 0 ≤ e) (e1 : e < n) (c0 : 0 ≤ c) (c1 : c ≤ m) : R16 (hat S s m e c) := by
  unfold hat
  by_cases z : c = m
  · rw [if_pos z]
    exact xor_r (hS e 8 e0 e1 (by decide) (by decide)) (xs_r m hs (fun c c0 c1 => hS e c e0 e1 c0 (by omega)))
  · rw [if_neg z]
    exact hS e c e0 e1 c0 (by omega)
/-- reducing acts on what is due as on all else -/
theorem hat_red {S : Int → Int → Int} {s : Int → Int} {m : Nat} {n k : Int} (hm : m ≤ 8) (hs : ∀ c : Int, 0 ≤ c → c < m → R16 (s c)) (hS : S16 S n) (hk : 0 ≤ k ∧ k < n ∧ k < m) (hkk : 1 ≤ S k k ∧ S k k < 16) {e c : Int} (e0 : 0 ≤ e) (e1 : e < n) (c0 : 0 ≤ c) (c1 : c ≤ m) : hat (red S k) s m e c = if e = k then gfm (giv (S k k)) (hat S s m k c) else rh_xor (hat S s m e c) (gfm (S e k) (gfm (giv (S k k)) (hat S s m k c))) := by
  have gi : R16 (giv (S k k)) := by have := (giv_e hkk).1; unfold R16; omega
  have rk : ∀ c, 0 ≤ c → c < 9 → R16 (S k c) := fun c c0 c1 => hS k c hk.1 hk.2.1 c0 c1
  have re : ∀ c, 0 ≤ c → c < 9 → R16 (S e c) := fun c c0 c1 => hS e c e0 e1 c0 c1
  have xk := xs_r m hs (fun c c0 c1 => rk c c0 (by omega))
  have xe := xs_r m hs (fun c c0 c1 => re c c0 (by omega))
  by_cases ec : c = m
  · unfold hat
    rw [if_pos ec, if_pos ec, if_pos ec]
    by_cases ek : e = k
    · rw [if_pos ek, ek]
      have a1 : ∀ c, red S k k c = gfm (giv (S k k)) (S k c) := fun c => if_pos rfl
      rw [a1, xs_e (r2 := fun c => gfm (giv (S k k)) (S k c)) m (fun c _ _ => a1 c), xs_g gi m hs (fun c c0 c1 => rk c c0 (by omega)), ← gfm_x gi (rk 8 (by decide) (by decide)) xk]
    · rw [if_neg ek]
      have a1 : ∀ c, red S k e c = rh_xor (S e c) (gfm (S e k) (gfm (giv (S k k)) (S k c))) := fun c => if_neg ek
      have rek := re k hk.1 (by omega)
      rw [a1, xs_e (r2 := fun c => rh_xor (S e c) (gfm (S e k) (gfm (giv (S k k)) (S k c)))) m (fun c _ _ => a1 c), xs_x m hs (fun c c0 c1 => re c c0 (by omega)) (fun c c0 c1 => gfm_r rek (gfm_r gi (rk c c0 (by omega)))), xs_g (row := fun c => gfm (giv (S k k)) (S k c)) rek m hs (fun c c0 c1 => gfm_r gi (rk c c0 (by omega))), xs_g gi m hs (fun c c0 c1 => rk c c0 (by omega)), x4 (re 8 (by decide) (by decide)) (gfm_r rek (gfm_r gi (rk 8 (by decide) (by decide)))) xe (gfm_r rek (gfm_r gi xk)), ← gfm_x rek (gfm_r gi (rk 8 (by decide) (by decide))) (gfm_r gi xk), ← gfm_x gi (rk 8 (by decide) (by decide)) xk]
  · unfold hat
    rw [if_neg ec, if_neg ec, if_neg ec]
    rfl
/-- the two systems while columns below k are done -/
def Elm (H S : Int → Int → Int) (s : Int → Int) (n : Int) (m : Nat) (k : Int) : Prop := S16 S n ∧ (∀ e c : Int, 0 ≤ e → e < n → 0 ≤ c → c ≤ m → R16 (H e c)) ∧ (∃ d : Int → Int, (∀ e, 0 ≤ e → e < n → (1 ≤ d e ∧ d e < 16) ∧ (k ≤ e → d e = 1)) ∧ ∀ e c : Int, 0 ≤ e → e < n → 0 ≤ c → c ≤ m → hat S s m e c = gfm (d e) (H e c)) ∧ (∀ e c : Int, 0 ≤ e → e < n → 0 ≤ c → c < k → e ≠ c → H e c = 0) ∧ ∀ c : Int, 0 ≤ c → c < k → H c c ≠ 0 ∧ S c c = 1
theorem swp_u {S : Int → Int → Int} {u p c : Int} : swp S u p u c = S p c := if_pos rfl
theorem swp_p {S : Int → Int → Int} {u p c : Int} : swp S u p p c = S u c := by
  unfold swp
  by_cases z : p = u
  · rw [if_pos z, z]
  · rw [if_neg z, if_pos rfl]
theorem swp_o {S : Int → Int → Int} {u p e c : Int} (h1 : e ≠ u) (h2 : e ≠ p) : swp S u p e c = S e c := by
  unfold swp
  rw [if_neg h1, if_neg h2]
theorem swp_c {P : Int → Prop} {u p e : Int} (hu : P u) (hp : P p) (he : P e) : ∀ S : Int → Int → Int, ∃ e', P e' ∧ (∀ c, swp S u p e c = S e' c) ∧ (e' = e ∨ (e = u ∧ e' = p) ∨ (e = p ∧ e' = u)) := fun S => by
  by_cases z : e = u
  · exact ⟨p, hp, fun c => by rw [z]; exact swp_u, .inr (.inl ⟨z, rfl⟩)⟩
  · by_cases z2 : e = p
    · exact ⟨u, hu, fun c => by rw [z2]; exact swp_p, .inr (.inr ⟨z2, rfl⟩)⟩
    · exact ⟨e, he, fun c => swp_o z z2, .inl rfl⟩
theorem hat_swp {S : Int → Int → Int} {s : Int → Int} {m : Nat} {u p e e' c : Int} (h : ∀ c, swp S u p e c = S e' c) : hat (swp S u p) s m e c = hat S s m e' c := by
  unfold hat
  rw [h 8, xs_e (r2 := S e') m (fun c _ _ => h c), h c]
/-- rows of equal scale change places -/
theorem Elm.sw {H S : Int → Int → Int} {s : Int → Int} {n : Int} {m : Nat} {k p : Int} (E : Elm H S s n m k) (hk : 0 ≤ k ∧ k < n) (hp : k ≤ p ∧ p < n) : Elm (swp H k p) (swp S k p) s n m k := by
  obtain ⟨E1, E2, ⟨d, d1, d2⟩, E3, E4⟩ := E
  have pick : ∀ e, 0 ≤ e → e < n → ∃ e', (0 ≤ e' ∧ e' < n) ∧ (∀ c, swp S k p e c = S e' c) ∧ (∀ c, swp H k p e c = H e' c) ∧ d e' = d e ∧ (e' = e ∨ (k ≤ e ∧ k ≤ e')) := fun e e0 e1 => by
    have dk := (d1 k hk.1 hk.2).2 (Int.le_refl _)
    have dp := (d1 p (by omega) hp.2).2 hp.1
    by_cases z : e = k
    · exact ⟨p, ⟨by omega, by omega⟩, fun c => by rw [z]; exact swp_u, fun c => by rw [z]; exact swp_u, by rw [z, dk, dp], .inr ⟨by omega, by omega⟩⟩
    · by_cases z2 : e = p
      · exact ⟨k, hk, fun c => by rw [z2]; exact swp_p, fun c => by rw [z2]; exact swp_p, by rw [z2, dk, dp], .inr ⟨by omega, by omega⟩⟩
      · exact ⟨e, ⟨e0, e1⟩, fun c => swp_o z z2, fun c => swp_o z z2, rfl, .inl rfl⟩
  refine ⟨fun e c e0 e1 c0 c1 => ?_, fun e c e0 e1 c0 c1 => ?_, ⟨d, d1, fun e c e0 e1 c0 c1 => ?_⟩, fun e c e0 e1 c0 c1 ec => ?_, fun c c0 c1 => ?_⟩
  · obtain ⟨e', r, a1, a2, a3, a4⟩ := pick e e0 e1
    rw [a1]; exact E1 e' c r.1 r.2 c0 c1
  · obtain ⟨e', r, a1, a2, a3, a4⟩ := pick e e0 e1
    rw [a2]; exact E2 e' c r.1 r.2 c0 c1
  · obtain ⟨e', r, a1, a2, a3, a4⟩ := pick e e0 e1
    rw [hat_swp a1, a2, d2 e' c r.1 r.2 c0 c1, a3]
  · obtain ⟨e', r, a1, a2, a3, a4⟩ := pick e e0 e1
    rw [a2]; exact E3 e' c r.1 r.2 c0 c1 (by omega)
  · have z : c ≠ k := by omega
    have z2 : c ≠ p := by omega
    rw [swp_o z z2, swp_o z z2]
    exact E4 c c0 c1
end Elim
