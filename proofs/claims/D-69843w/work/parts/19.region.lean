/-! ===== the symbolic executor: arms that meet again, regions ===== -/
section RhRegion
variable {w : rhW} {Y : rhY} {h lo hi : Nat}
/-- a state, or past the end (65536): the answer -/
noncomputable def rh_fin (Q : rhQ) (e : rhEn) (st : rhSt) : Prop := match st.2.1 with
  | [] => Q.1 0 (rh_den e st.2.2.1).2.1
  | q :: _ => Q.1 (rh_den e q.2).1 (rh_den e st.2.2.1).2.1
noncomputable def rh_ax (w : rhW) (Y : rhY) (n : Nat) (Q : rhQ) (e : rhEn) (pc : Nat) (st : rhSt) : Prop := (pc = 65536 ∧ rh_fin Q e st) ∨ (pc < 65536 ∧ rh_at w Y n Q e pc st)
def rh_mgL (c : rhX) (L2 : rhLx) : rhLx → rhLx
  | [] => []
  | q :: l => match rh_fl1 L2 q.1 with
    | some (t, x) => cond (Nat.beq t q.2.1) ((q.1, t, rh_it2 c q.2.2 x) :: rh_mgL c L2 l) (rh_mgL c L2 l)
    | none => rh_mgL c L2 l
theorem rh_mgL_t {e : rhEn} {c : rhX} {L2 : rhLx} (hc : (rh_den e c).2.2) : ∀ {L1 : rhLx} (z : Nat × rhA), z ∈ rh_sL e (rh_mgL c L2 L1) → z ∈ rh_sL e L1
  | [], z, hz => hz
  | q :: l, z, hz => by
    have ih := rh_mgL_t (L2 := L2) hc (L1 := l) z
    have hin : z ∈ rh_sL e l → z ∈ rh_sL e (q :: l) := fun hy => List.mem_cons_of_mem _ hy
    unfold rh_mgL at hz
    split at hz
    · rename_i t x hf
      cases hb : Nat.beq t q.2.1 with
      | false => rw [hb] at hz; exact hin (ih hz)
      | true =>
        rw [hb] at hz
        obtain rfl := Nat.eq_of_beq_eq_true hb
        rcases List.mem_cons.mp hz with hy | hy
        · rw [hy]
          show (q.1, q.2.1, (rh_den e (rh_it2 c q.2.2 x)).1) ∈ _
          rw [(rh_it2_t hc).1]
          exact List.mem_cons_self
        · exact hin (ih hy)
    · exact hin (ih hz)
theorem rh_mgL_f {e : rhEn} {c : rhX} {L2 : rhLx} (hc : ¬ (rh_den e c).2.2) : ∀ {L1 : rhLx} (z : Nat × rhA), z ∈ rh_sL e (rh_mgL c L2 L1) → z ∈ rh_sL e L2
  | [], z, hz => by cases hz
  | q :: l, z, hz => by
    have ih := rh_mgL_f (L2 := L2) hc (L1 := l) z
    unfold rh_mgL at hz
    split at hz
    · rename_i t x hf
      cases hb : Nat.beq t q.2.1 with
      | false => rw [hb] at hz; exact ih hz
      | true =>
        rw [hb] at hz
        rcases List.mem_cons.mp hz with hy | hy
        · rw [hy]
          show (q.1, t, (rh_den e (rh_it2 c q.2.2 x)).1) ∈ _
          rw [(rh_it2_f hc).1]
          obtain ⟨j, hj⟩ := rh_fl1_j (e := e) hf
          exact List.mem_of_getElem? hj
        · exact ih hy
    · exact ih hz
def rh_mgT (t u : Nat) : Option Nat := cond (Nat.beq t u) (some t) (cond (rh_ik t && rh_ik u) (some 3) (cond (rh_jk t && rh_jk u) (some 4) none))
theorem rh_mgT_1 {t u v : Nat} (hm : rh_mgT t u = some v) (x : Int) : rh_a w (t, x) = rh_a w (v, x) ∧ (rh_ok (t, x) → rh_ok (v, x)) := by
  unfold rh_mgT at hm
  cases h1 : Nat.beq t u with
  | true => rw [h1] at hm; cases hm; exact ⟨rfl, id⟩
  | false =>
    rw [h1] at hm
    simp only [cond_false] at hm
    cases h2 : rh_ik t && rh_ik u with
    | true =>
      rw [h2] at hm; cases hm
      simp only [Bool.and_eq_true] at h2
      exact ⟨by rw [rh_a_i h2.1]; rfl, fun _ => trivial⟩
    | false =>
      rw [h2] at hm
      simp only [cond_false] at hm
      cases h3 : rh_jk t && rh_jk u with
      | true =>
        rw [h3] at hm; cases hm
        simp only [Bool.and_eq_true] at h3
        exact ⟨by rw [rh_a_j h3.1]; rfl, fun _ => trivial⟩
      | false => rw [h3] at hm; cases hm
theorem rh_mgT_2 {t u v : Nat} (hm : rh_mgT t u = some v) (x : Int) : rh_a w (u, x) = rh_a w (v, x) ∧ (rh_ok (u, x) → rh_ok (v, x)) := by
  unfold rh_mgT at hm
  cases h1 : Nat.beq t u with
  | true => rw [h1] at hm; obtain rfl := Nat.eq_of_beq_eq_true h1; cases hm; exact ⟨rfl, id⟩
  | false =>
    rw [h1] at hm
    simp only [cond_false] at hm
    cases h2 : rh_ik t && rh_ik u with
    | true =>
      rw [h2] at hm; cases hm
      simp only [Bool.and_eq_true] at h2
      exact ⟨by rw [rh_a_i h2.2]; rfl, fun _ => trivial⟩
    | false =>
      rw [h2] at hm
      simp only [cond_false] at hm
      cases h3 : rh_jk t && rh_jk u with
      | true =>
        rw [h3] at hm; cases hm
        simp only [Bool.and_eq_true] at h3
        exact ⟨by rw [rh_a_j h3.2]; rfl, fun _ => trivial⟩
      | false => rw [h3] at hm; cases hm
def rh_mgS (c : rhX) : rhSx → rhSx → Option rhSx
  | [], [] => some []
  | a :: l, b :: m => (match rh_mgT a.1 b.1, rh_mgS c l m with
    | some t, some r => some ((t, rh_it2 c a.2 b.2) :: r)
    | _, _ => none)
  | _, _ => none
theorem rh_mgS_t {e : rhEn} {c : rhX} (hc : (rh_den e c).2.2) : ∀ {a b r : rhSx}, rh_mgS c a b = some r → (rh_sS e a).map (rh_a w) = (rh_sS e r).map (rh_a w) ∧ ((∀ z ∈ rh_sS e a, rh_ok z) → ∀ z ∈ rh_sS e r, rh_ok z) ∧ (rh_sS e a).map (fun z => z.2) = (rh_sS e r).map (fun z => z.2)
  | [], [], r, hm => by cases hm; exact ⟨rfl, id, rfl⟩
  | [], _ :: _, r, hm => by cases hm
  | _ :: _, [], r, hm => by cases hm
  | a :: l, b :: m, r, hm => by
    unfold rh_mgS at hm
    split at hm
    · rename_i t r0 h1 h2
      cases hm
      obtain ⟨i1, i2, i3⟩ := rh_mgS_t hc h2
      have ht := rh_mgT_1 (w := w) h1 (rh_den e a.2).1
      have hv := (rh_it2_t (a := a.2) (b := b.2) hc).1
      refine ⟨?_, fun hz z hz2 => ?_, ?_⟩
      · simp only [rh_sS, List.map_cons, hv] at i1 ⊢
        rw [i1, ht.1]
      · simp only [rh_sS, List.map_cons, hv] at hz2
        rcases List.mem_cons.mp hz2 with hy | hy
        · rw [hy]; exact ht.2 (hz _ List.mem_cons_self)
        · exact i2 (fun z hz3 => hz z (List.mem_cons_of_mem _ hz3)) z hy
      · simp only [rh_sS, List.map_cons, hv] at i3 ⊢
        rw [i3]
    · cases hm
theorem rh_mgS_f {e : rhEn} {c : rhX} (hc : ¬ (rh_den e c).2.2) : ∀ {a b r : rhSx}, rh_mgS c a b = some r → (rh_sS e b).map (rh_a w) = (rh_sS e r).map (rh_a w) ∧ ((∀ z ∈ rh_sS e b, rh_ok z) → ∀ z ∈ rh_sS e r, rh_ok z) ∧ (rh_sS e b).map (fun z => z.2) = (rh_sS e r).map (fun z => z.2)
  | [], [], r, hm => by cases hm; exact ⟨rfl, id, rfl⟩
  | [], _ :: _, r, hm => by cases hm
  | _ :: _, [], r, hm => by cases hm
  | a :: l, b :: m, r, hm => by
    unfold rh_mgS at hm
    split at hm
    · rename_i t r0 h1 h2
      cases hm
      obtain ⟨i1, i2, i3⟩ := rh_mgS_f hc h2
      have ht := rh_mgT_2 (w := w) h1 (rh_den e b.2).1
      have hv := (rh_it2_f (a := a.2) (b := b.2) hc).1
      refine ⟨?_, fun hz z hz2 => ?_, ?_⟩
      · simp only [rh_sS, List.map_cons, hv] at i1 ⊢
        rw [i1, ht.1]
      · simp only [rh_sS, List.map_cons, hv] at hz2
        rcases List.mem_cons.mp hz2 with hy | hy
        · rw [hy]; exact ht.2 (hz _ List.mem_cons_self)
        · exact i2 (fun z hz3 => hz z (List.mem_cons_of_mem _ hz3)) z hy
      · simp only [rh_sS, List.map_cons, hv] at i3 ⊢
        rw [i3]
    · cases hm
def rh_mg (c : rhX) (s1 s2 : rhSt) (s : rhSt) : Option rhSt := match rh_mgS c s1.2.1 s2.2.1 with
  | some S => some (rh_mgL c s2.1 s1.1, S, rh_it2 c s1.2.2.1 s2.2.2.1, s.2.2.2)
  | none => none
theorem rh_fin_eq {Q : rhQ} {e : rhEn} {s1 s2 : rhSt} (h1 : (rh_sS e s1.2.1).map (fun z => z.2) = (rh_sS e s2.2.1).map (fun z => z.2)) (h2 : (rh_den e s1.2.2.1).2.1 = (rh_den e s2.2.2.1).2.1) (hf : rh_fin Q e s2) : rh_fin Q e s1 := by
  obtain ⟨L1, S1, M1, k1⟩ := s1
  obtain ⟨L2, S2, M2, k2⟩ := s2
  simp only at h1 h2
  cases S1 with
  | nil =>
    cases S2 with
    | nil => unfold rh_fin at hf ⊢; simp only at hf ⊢; rw [h2]; exact hf
    | cons b m => cases h1
  | cons a l =>
    cases S2 with
    | nil => cases h1
    | cons b m =>
      have h3 : (rh_den e a.2).1 = (rh_den e b.2).1 := by
        simp only [rh_sS, List.map_cons, List.cons.injEq] at h1
        exact h1.1
      unfold rh_fin at hf ⊢
      simp only at hf ⊢
      rw [h2, h3]; exact hf
theorem rh_mg_t {n : Nat} {Q : rhQ} {e : rhEn} {c : rhX} {s1 s2 s s3 : rhSt} {pc : Nat} (hm : rh_mg c s1 s2 s = some s3) (hc : (rh_den e c).2.2) (K : rh_ax w Y n Q e pc s3) : rh_ax w Y n Q e pc s1 := by
  unfold rh_mg at hm
  split at hm
  · rename_i S hS
    cases hm
    obtain ⟨i1, i2, i3⟩ := rh_mgS_t (w := w) hc hS
    have hM := (rh_it2_t (a := s1.2.2.1) (b := s2.2.2.1) hc).2
    rcases K with ⟨k1, k2⟩ | ⟨k1, k2⟩
    · exact .inl ⟨k1, rh_fin_eq i3 hM.symm k2⟩
    · refine .inr ⟨k1, ?_⟩
      unfold rh_at at k2 ⊢
      simp only [hM] at k2
      exact rh_lessM (rh_mgL_t hc) (rh_chg i1 i2 k2)
  · cases hm
theorem rh_mg_f {n : Nat} {Q : rhQ} {e : rhEn} {c : rhX} {s1 s2 s s3 : rhSt} {pc : Nat} (hm : rh_mg c s1 s2 s = some s3) (hc : ¬ (rh_den e c).2.2) (K : rh_ax w Y n Q e pc s3) : rh_ax w Y n Q e pc s2 := by
  unfold rh_mg at hm
  split at hm
  · rename_i S hS
    cases hm
    obtain ⟨i1, i2, i3⟩ := rh_mgS_f (w := w) hc hS
    have hM := (rh_it2_f (a := s1.2.2.1) (b := s2.2.2.1) hc).2
    rcases K with ⟨k1, k2⟩ | ⟨k1, k2⟩
    · exact .inl ⟨k1, rh_fin_eq i3 hM.symm k2⟩
    · refine .inr ⟨k1, ?_⟩
      unfold rh_at at k2 ⊢
      simp only [hM] at k2
      exact rh_lessM (rh_mgL_f hc) (rh_chg i1 i2 k2)
  · cases hm
/-- ends of a method: what is owed, the answer -/
def rh_rte (ret : Option FieldType) (d : rhDc) (st : rhSt) : Option (List rhX × rhX) := match d with
  | .ok (.ireturn, 1) => (match st.2.1, ret with
    | [(t, v)], some .int => cond (rh_ik t) (some (rh_oI t v, v)) none
    | [(t, v)], some .boolean => cond (rh_ik t) (some (rh_oZ v, v)) none
    | [(t, v)], some .byte => cond (rh_ik t) (some (rh_oB v, v)) none
    | _, _ => none)
  | .ok (.lreturn, 1) => (match st.2.1, ret with
    | [(t, v)], some .long => cond (rh_jk t) (some (rh_oJ t v, v)) none
    | _, _ => none)
  | .ok (.areturn, 1) => (match st.2.1, ret with
    | [(2, v)], some ty => cond (rh_rt ty) (some ([], v)) none
    | _, _ => none)
  | .ok (.return_, 1) => (match st.2.1, ret with
    | [], none => some ([], .num 0)
    | _, _ => none)
  | _ => none
theorem rh_rte_ok {pc : Nat} {st : rhSt} {o : List rhX} {v : rhX} (hr : rh_rte (ry_r Y) (decode (ry_c Y) pc) st = some (o, v)) (n : Nat) (Q : rhQ) (e : rhEn) (ho : rh_hold e o) (hQ : Q.1 (rh_den e v).1 (rh_den e st.2.2.1).2.1) : rh_at w Y n Q e pc st := by
  obtain ⟨L, S0, M, kb, nx⟩ := st
  unfold rh_rte at hr
  unfold rh_at
  split at hr
  · rename_i hd
    split at hr
    · rename_i t v2 hS hret
      simp only at hS
      subst hS
      cases ht : rh_ik t with
      | false => rw [ht] at hr; cases hr
      | true =>
        rw [ht] at hr
        cases hr
        exact (rh_retI hd hret rfl ht (fun hz => rh_oki hz (rh_oI_ok ho)) hQ).zq
    · rename_i t v2 hS hret
      simp only at hS
      subst hS
      cases ht : rh_ik t with
      | false => rw [ht] at hr; cases hr
      | true =>
        rw [ht] at hr
        cases hr
        exact (rh_retI hd hret rfl ht (fun _ => rh_oZ_ok ho) hQ).zq
    · rename_i t v2 hS hret
      simp only at hS
      subst hS
      cases ht : rh_ik t with
      | false => rw [ht] at hr; cases hr
      | true =>
        rw [ht] at hr
        cases hr
        exact (rh_retI hd hret rfl ht (fun _ => rh_oB_ok ho) hQ).zq
    · cases hr
  · rename_i hd
    split at hr
    · rename_i t v2 hS hret
      simp only at hS
      subst hS
      cases ht : rh_jk t with
      | false => rw [ht] at hr; cases hr
      | true =>
        rw [ht] at hr
        cases hr
        exact (rh_retJ hd hret ht (rh_oJ_ok ho) hQ).zq
    · cases hr
  · rename_i hd
    split at hr
    · rename_i v2 ty hS hret
      simp only at hS
      subst hS
      cases ht : rh_rt ty with
      | false => rw [ht] at hr; cases hr
      | true =>
        rw [ht] at hr
        cases hr
        exact (rh_retR hd hret ht hQ).zq
    · cases hr
  · rename_i hd
    split at hr
    · rename_i hS hret
      simp only at hS
      subst hS
      cases hr
      exact (rh_retV hd hret hQ).zq
    · cases hr
  · cases hr
theorem rh_rte_dk {pc : Nat} {st : rhSt} {dt : rhDt} {ret : Option FieldType} {r : List rhX × rhX} (hd : rh_dok (ry_c Y) dt) (hr : rh_rte ret (rh_dk dt pc) st = some r) : rh_rte ret (decode (ry_c Y) pc) st = some r := by
  rcases hd pc with hq | hq
  · rw [hq] at hr; exact hr
  · rw [hq] at hr
    cases hr
def rh_fh : List (Nat × Nat × Nat × Nat) → Nat → Option (Nat × Nat × Nat)
  | [], _ => none
  | q :: l, i => cond (Nat.beq q.1 i) (some q.2) (rh_fh l i)
/-- an arm, to the join J -/
def rh_arm (lo hi : Nat) (Y : rhY) (l : rhLn) (hn : List (Nat × Nat × Nat × Nat)) : Nat → Nat → Nat → rhSt → Option (List rhX × rhSt)
  | 0, _, _, _ => none
  | f + 1, J, pc, st => cond (Nat.beq pc J) (some ([], st)) (cond (Nat.blt pc 65536) (match (cond (Nat.beq J 65536) (rh_rte (ry_r Y) (rh_dk l.2.2.2.2 pc) st) none : Option (List rhX × rhX)) with
    | some (o, v) => some (o, [], [(0, v)], st.2.2)
    | none => (match rh_fh hn pc with
      | some (T, F, J') => (match (cond (Nat.blt T 65536 && Nat.blt F 65536) (rh_tst lo hi Y l T F f pc st) none : rhTs) with
        | some (C, o, s) => (match rh_arm lo hi Y l hn f J' T s, rh_arm lo hi Y l hn f J' F s with
          | some (o1, s1), some (o2, s2) => (match rh_mg C s1 s2 s with
            | some s3 => (match rh_arm lo hi Y l hn f J J' s3 with
              | some (o4, s4) => some (o ++ (rh_grd C o1 ++ (rh_grd (rh_neg C) o2 ++ o4)), s4)
              | none => none)
            | none => none)
          | _, _ => none)
        | none => none)
      | none => (match rh_stp lo hi (ry_L Y) l (rh_dk l.2.2.2.2 pc) pc st with
        | some (o, pc', s) => cond (Nat.blt pc' 65536) (match rh_arm lo hi Y l hn f J pc' s with
          | some (o2, s2) => some (o ++ o2, s2)
          | none => none) none
        | none => none))) none)
theorem rh_arm_ok {l : rhLn} {hn : List (Nat × Nat × Nat × Nat)} (hs : rh_sd lo hi w) (hl : rh_lok w Y h l) : ∀ {f J pc : Nat} {st : rhSt} {o : List rhX} {s : rhSt}, rh_arm lo hi Y l hn f J pc st = some (o, s) → ∀ e : rhEn, e.2.2 = w → rh_KB e st.2.2.2.1 → rh_hold e o →
    rh_KB e s.2.2.2.1 ∧ ∀ (n : Nat) (Q : rhQ), rh_ax w Y (n + h) Q e J s → rh_ax w Y (n + h) Q e pc st
  | 0, _, _, _, _, _, hr => by cases hr
  | f + 1, J, pc, st, o, s, hr => by
    intro e hw hk ho
    unfold rh_arm at hr
    cases hJ : Nat.beq pc J with
    | true =>
      rw [hJ] at hr
      obtain rfl := Nat.eq_of_beq_eq_true hJ
      cases hr
      exact ⟨hk, fun n Q K => K⟩
    | false =>
      rw [hJ] at hr
      simp only [cond_false] at hr
      cases hp : Nat.blt pc 65536 with
      | false => rw [hp] at hr; cases hr
      | true =>
        rw [hp] at hr
        have hp := rh_blt hp
        simp only [cond_true] at hr
        split at hr
        · rename_i ob v hre
          cases hr
          cases hJ2 : Nat.beq J 65536 with
          | false => rw [hJ2] at hre; cases hre
          | true =>
            rw [hJ2] at hre
            obtain rfl := Nat.eq_of_beq_eq_true hJ2
            refine ⟨hk, fun n Q K => .inr ⟨hp, ?_⟩⟩
            rcases K with ⟨_, k2⟩ | ⟨k1, _⟩
            · exact rh_rte_ok (rh_rte_dk hl.2.2.2.2 hre) _ Q e ho k2
            · omega
        · split at hr
          · rename_i T F J' hh
            split at hr
            · rename_i C o0 s0 ht
              cases hTF : Nat.blt T 65536 && Nat.blt F 65536 with
              | false => rw [hTF] at ht; cases ht
              | true =>
                rw [hTF] at ht
                simp only [cond_true] at ht
                simp only [Bool.and_eq_true] at hTF
                have hT := rh_blt hTF.1
                have hF := rh_blt hTF.2
                split at hr
                · rename_i o1 s1 o2 s2 h1 h2
                  split at hr
                  · rename_i s3 h3
                    split at hr
                    · rename_i o4 s4 h4
                      cases hr
                      obtain ⟨p0, pp⟩ := rh_hold_a ho
                      obtain ⟨p1, pp⟩ := rh_hold_a pp
                      obtain ⟨p2, p4⟩ := rh_hold_a pp
                      obtain ⟨k0, q0⟩ := rh_tst_ok hs hl ht e hw hk p0
                      have hk3 : rh_KB e s3.2.2.2.1 := by
                        unfold rh_mg at h3
                        split at h3
                        · cases h3; exact k0
                        · cases h3
                      obtain ⟨k4, q4⟩ := rh_arm_ok hs hl h4 e hw hk3 p4
                      refine ⟨k4, fun n Q K => .inr ⟨hp, ?_⟩⟩
                      have K3 := q4 n Q K
                      by_cases hC : (rh_den e C).2.2
                      · refine q0 n Q (fun _ => ?_) (fun hz => absurd hC hz)
                        rcases (rh_arm_ok hs hl h1 e hw k0 (rh_grd_ok p1 hC)).2 n Q (rh_mg_t h3 hC K3) with ⟨a, _⟩ | ⟨_, b⟩
                        · omega
                        · exact b
                      · refine q0 n Q (fun hz => absurd hz hC) (fun _ => ?_)
                        rcases (rh_arm_ok hs hl h2 e hw k0 (rh_grd_ok p2 (rh_neg_d.mpr hC))).2 n Q (rh_mg_f h3 hC K3) with ⟨a, _⟩ | ⟨_, b⟩
                        · omega
                        · exact b
                    · cases hr
                  · cases hr
                · cases hr
            · cases hr
          · split at hr
            · rename_i ob pc' s0 hst
              cases hpc : Nat.blt pc' 65536 with
              | false => rw [hpc] at hr; cases hr
              | true =>
                rw [hpc] at hr
                have hpc := rh_blt hpc
                simp only [cond_true] at hr
                split at hr
                · rename_i o2 s2 h2
                  cases hr
                  obtain ⟨p1, p2⟩ := rh_hold_a ho
                  have hk2 := (rh_stp_ok hs hl (rh_stp_dk hl.2.2.2.2 hst) 0 (fun _ _ => True, fun _ => True) e hw hk p1).1
                  obtain ⟨k4, q4⟩ := rh_arm_ok hs hl h2 e hw hk2 p2
                  refine ⟨k4, fun n Q K => .inr ⟨hp, ?_⟩⟩
                  refine (rh_stp_ok hs hl (rh_stp_dk hl.2.2.2.2 hst) n Q e hw hk p1).2 ?_
                  rcases q4 n Q K with ⟨a, _⟩ | ⟨_, b⟩
                  · omega
                  · exact b
                · cases hr
            · cases hr
end RhRegion
