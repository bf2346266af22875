/-! ===== calls as the printed rows use them ===== -/
section RhLinks
variable {w : rhW} {Y : rhY} {n : Nat} {k : Nat × Nat × Nat × Nat} {Z : List Frame → Array Value → State → State → Prop} {pc : Nat} {L : rhL} {S : List rhA} {M : rhM}
/-- what the tables say of a static method, of a method of a class -/
def rh_kS (Y : rhY) (na : Nat) : Prop := Cond.static (ry_y Y) ∈ lw_all ∧ Cond.initialized (ry_y Y).cls ∈ lw_all ∧ Cond.code (ry_y Y) (ry_c Y) (ry_L Y) (ry_r Y) ∈ lw_all ∧
  ((ry_y Y).cls ≠ "java/lang/invoke/MethodHandle" ∧ (ry_y Y).cls ≠ "java/lang/invoke/VarHandle" ∧ (parseMethodDescriptor (ry_y Y).desc).map (fun d => d.parameters.length) = some na) ∧ ry_L Y ≤ 81 ∧ rh_rok (ry_r Y) = true
def rh_kV (Y : rhY) (C : String) (na : Nat) : Prop := Cond.instanceMethod (ry_y Y) ∈ lw_all ∧ Cond.selects C (ry_y Y) (ry_y Y) ∈ lw_all ∧ Cond.initialized C ∈ lw_all ∧ Cond.code (ry_y Y) (ry_c Y) (ry_L Y) (ry_r Y) ∈ lw_all ∧
  ((ry_y Y).cls = C ∧ (ry_y Y).cls ≠ "java/lang/invoke/MethodHandle" ∧ (ry_y Y).cls ≠ "java/lang/invoke/VarHandle" ∧ (parseMethodDescriptor (ry_y Y).desc).map (fun d => d.parameters.length) = some na) ∧ ry_L Y ≤ 81 ∧ rh_rok (ry_r Y) = true
theorem rh_cs (pc' : Nat) {Y' : rhY} {idx na : Nat} {S1 : List rhA} {av : List rhA} (hd : decode (ry_c Y) pc = .ok (.invokestatic idx, 3)) (hl : Cond.methodLink (ry_y Y).cls idx (ry_y Y') ∈ lw_all ∨ ∃ host, Cond.methodLinkNest (ry_y Y).cls idx (ry_y Y') host ∈ rh_nst) (kk : rh_kS Y' na) (hna : na = av.length)
    (hS : S = av.reverse ++ S1) (hS1 : rh_wd S1 ≤ 8) (hk : k.1 ≤ k.2.2.1 ∧ k.2.1 ≤ k.2.2.2) (hp : pc + 3 = pc') (K : rh_OK w Y' n av M (fun r M' => rh_At w Y (n + 1) k Z pc' L (rh_res (ry_r Y') r S1) M')) : rh_At w Y (n + 1) k Z pc L S M := by
  subst hna
  exact rh_cS pc' hd hl kk.1 kk.2.1 kk.2.2.1 kk.2.2.2.1 kk.2.2.2.2.1 kk.2.2.2.2.2 hS hS1 hk hp K
theorem rh_cv (pc' : Nat) {Y' : rhY} {idx na ci : Nat} {x : Int} {q : vw_C} {S1 : List rhA} {av : List rhA} (ho : rh_ob w x ci) (hd : decode (ry_c Y) pc = .ok (.invokevirtual idx, 3)) (hc : rh_cls[ci]? = some q) (hl : Cond.methodLink (ry_y Y).cls idx (ry_y Y') ∈ lw_all ∨ ∃ host, Cond.methodLinkNest (ry_y Y).cls idx (ry_y Y') host ∈ rh_nst) (kk : rh_kV Y' q.1 na) (hna : na = av.length)
    (hS : S = av.reverse ++ (2, x) :: S1) (hS1 : rh_wd S1 ≤ 8) (hk : k.1 ≤ k.2.2.1 ∧ k.2.1 ≤ k.2.2.2) (hp : pc + 3 = pc') (K : rh_OK w Y' n ((2, x) :: av) M (fun r M' => rh_At w Y (n + 1) k Z pc' L (rh_res (ry_r Y') r S1) M')) : rh_At w Y (n + 1) k Z pc L S M := by
  subst hna
  exact rh_cV pc' ho hd hc hl kk.1 kk.2.1 kk.2.2.1 kk.2.2.2.1 kk.2.2.2.2.1 kk.2.2.2.2.2.1 kk.2.2.2.2.2.2 hS hS1 hk hp K
theorem rh_chg {S' : List rhA} (h : S.map (rh_a w) = S'.map (rh_a w)) (hok : (∀ z ∈ S, rh_ok z) → ∀ z ∈ S', rh_ok z) (K : rh_At w Y n k Z pc L S' M) : rh_At w Y n k Z pc L S M := by
  intro p l e R s m args below meth c H locs ls C D
  rw [h]
  exact K p l e R s m args below meth c H locs ls C ⟨D.1, D.2.1, hok D.2.2.1, D.2.2.2⟩
theorem rh_fxg {S' : List rhA} {t : Nat} {x : Int} (j : Nat) {u : Nat} (hu : rh_a w (u, x) = rh_a w (t, x)) (h : S[j]? = some (t, x)) (hr : rh_ok (u, x)) (hS : S.set j (u, x) = S') (K : rh_At w Y n k Z pc L S' M) : rh_At w Y n k Z pc L S M := by
  subst hS
  refine rh_chg ?_ (fun hz z hz2 => ?_) K
  · apply List.ext_getElem?
    intro i
    rw [List.getElem?_map, List.getElem?_map]
    by_cases hi : i = j
    · subst hi
      rw [List.getElem?_set_self (List.getElem?_eq_some_iff.mp h).1, h]
      simp only [Option.map_some, hu]
    · rw [List.getElem?_set_ne (Ne.symm hi)]
  · rcases List.mem_or_eq_of_mem_set hz2 with h1 | h1
    · exact hz z h1
    · rw [h1]; exact hr
theorem rh_fx {S' : List rhA} {x : Int} (j : Nat) (h : S[j]? = some (3, x)) (hr : rI x) (hS : S.set j (0, x) = S') (K : rh_At w Y n k Z pc L S' M) : rh_At w Y n k Z pc L S M := rh_fxg j (t := 3) (x := x) (u := 0) rfl h hr hS K
theorem rh_fxl {S' : List rhA} {x : Int} (j : Nat) (h : S[j]? = some (4, x)) (hr : rL x) (hS : S.set j (1, x) = S') (K : rh_At w Y n k Z pc L S' M) : rh_At w Y n k Z pc L S M := rh_fxg j (t := 4) (x := x) (u := 1) rfl h hr hS K
theorem rh_b0 {c : Prop} [Decidable c] (h : (if c then (1 : Int) else 0) = 0) : ¬ c := fun hc => by rw [if_pos hc] at h; cases h
theorem rh_b1 {c : Prop} [Decidable c] (h : ¬ ((if c then (1 : Int) else 0) = 0)) : c := by
  by_cases hc : c
  · exact hc
  · rw [if_neg hc] at h; exact absurd rfl h
theorem rh_b2 {c : Prop} [Decidable c] (h : ¬ ¬ ((if c then (1 : Int) else 0) = 0)) : ¬ c := rh_b0 (Decidable.not_not.mp h)
theorem rh_b01 {c : Prop} [Decidable c] : 0 ≤ (if c then (1 : Int) else 0) ∧ (if c then (1 : Int) else 0) ≤ 1 := by
  by_cases hc : c
  · rw [if_pos hc]; exact ⟨by decide, by decide⟩
  · rw [if_neg hc]; exact ⟨by decide, by decide⟩
theorem rh_nin {x : Cond} (h : x ∈ lw_tbl) (hx : rh_isN x = true) : x ∈ rh_nst := List.mem_filter.mpr ⟨h, hx⟩
/-- a number at hand is in range -/
theorem rh_lkI {L : rhL} (h : ∀ z ∈ L, rh_ok z.2) (j : Nat) {i : Nat} {x : Int} (hj : L[j]? = some (i, 0, x)) : rI x := h _ (List.mem_of_getElem? hj)
theorem rh_lkJ {L : rhL} (h : ∀ z ∈ L, rh_ok z.2) (j : Nat) {i : Nat} {x : Int} (hj : L[j]? = some (i, 1, x)) : rL x := h _ (List.mem_of_getElem? hj)
theorem rh_skI {S : List rhA} (h : ∀ z ∈ S, rh_ok z) (j : Nat) {x : Int} (hj : S[j]? = some (0, x)) : rI x := h _ (List.mem_of_getElem? hj)
theorem rh_skJ {S : List rhA} (h : ∀ z ∈ S, rh_ok z) (j : Nat) {x : Int} (hj : S[j]? = some (1, x)) : rL x := h _ (List.mem_of_getElem? hj)
/-- the memory, or the number on top, gets a name -/
theorem rh_nmM (K : ∀ M', M' = M → rh_At w Y n k Z pc L S M') : rh_At w Y n k Z pc L S M := K M rfl
theorem rh_nmT {t : Nat} {x : Int} (K : ∀ v, v = x → rh_At w Y n k Z pc L ((t, v) :: S) M) : rh_At w Y n k Z pc L ((t, x) :: S) M := K x rfl
theorem rh_pop2 (pc' : Nat) {a : rhA} (hd : decode (ry_c Y) pc = .ok (.pop2, 1)) (h1 : rh_jk a.1 = true) (hp : pc + 1 = pc') (K : rh_At w Y n k Z pc' L S M) : rh_At w Y n k Z pc L (a :: S) M := by
  subst hp
  have hc : (rh_a w a).category = 2 := by
    have := rh_catj w a
    rw [h1] at this
    rcases lv_cat (rh_a w a) with h | h
    · rw [h] at this; cases this
    · exact h
  exact rh_stepS K (fun _ h => rh_okt h) (fun p l e R s m args below meth c H locs ls cells slots Qf hx hb hl hs kk => lv_pop2_2 hx hb hd hc kk)
end RhLinks
