/-! ===== the symbolic executor: a region, to the places where it ends ===== -/
section RhGo
/-- from a place the machine comes to a place with A, or answers with B -/
def rhLf (w : rhW) (Y : rhY) (h : Nat) (pc : Nat) (L : rhL) (S : List rhA) (M : rhM) (A : Nat → rhL → List rhA → rhM → Prop) (B : Int → rhM → Prop) : Prop :=
  (∃ (pc' : Nat) (L' : rhL) (S' : List rhA) (M' : rhM), A pc' L' S' M' ∧ ∀ (n : Nat) (Q : rhQ), rh_AT w Y (n + h) Q pc' L' S' M' → rh_AT w Y (n + h) Q pc L S M) ∨
  (∃ (r : Int) (M' : rhM), B r M' ∧ ∀ (n : Nat) (Q : rhQ), Q.1 r M' → rh_AT w Y (n + h) Q pc L S M)
variable {w : rhW} {Y : rhY} {h lo hi : Nat} {A : Nat → rhL → List rhA → rhM → Prop} {B : Int → rhM → Prop}
theorem rhLf.step {pc pc' : Nat} {L L' : rhL} {S S' : List rhA} {M M' : rhM} (hst : ∀ (n : Nat) (Q : rhQ), rh_AT w Y (n + h) Q pc' L' S' M' → rh_AT w Y (n + h) Q pc L S M) (H : rhLf w Y h pc' L' S' M' A B) : rhLf w Y h pc L S M A B := by
  rcases H with ⟨p, l, s, m, a, b⟩ | ⟨r, m, a, b⟩
  · exact .inl ⟨p, l, s, m, a, fun n Q K => hst n Q (b n Q K)⟩
  · exact .inr ⟨r, m, a, fun n Q K => hst n Q (b n Q K)⟩
noncomputable abbrev rh_lf (w : rhW) (Y : rhY) (h : Nat) (e : rhEn) (pc : Nat) (st : rhSt) (A : Nat → rhL → List rhA → rhM → Prop) (B : Int → rhM → Prop) : Prop := rhLf w Y h pc (rh_sL e st.1) (rh_sS e st.2.1) (rh_den e st.2.2.1).2.1 A B
def rh_cj : List rhX → rhX → rhX
  | [], g => g
  | o :: l, g => cond (rh_tv o) (rh_cj l g) (.add o (rh_cj l g))
theorem rh_cj_d {e : rhEn} {g : rhX} : ∀ {l : List rhX}, rh_dF w [] 0 B A (rh_cj l g) e → rh_hold e l ∧ rh_dF w [] 0 B A g e
  | [], H => ⟨(fun o ho => by cases ho), H⟩
  | o :: l, H => by
    have H2 : (rh_den e o).2.2 ∧ rh_dF w [] 0 B A (rh_cj l g) e := by
      unfold rh_cj at H
      cases ht : rh_tv o with
      | true => rw [ht] at H; exact ⟨rh_tv_ok ht, H⟩
      | false => rw [ht] at H; exact H
    obtain ⟨a, b⟩ := rh_cj_d H2.2
    exact ⟨fun z hz => by
      rcases List.mem_cons.mp hz with rfl | hz
      · exact H2.1
      · exact a z hz, b⟩
def rh_fc : List (Nat × List Nat) → Nat → Option (List Nat)
  | [], _ => none
  | q :: l, i => cond (Nat.beq q.1 i) (some q.2) (rh_fc l i)
def rh_pkx (L : rhLx) : List Nat → Option rhLx
  | [] => some []
  | i :: l => (match rh_fl1 L i, rh_pkx L l with
    | some (t, x), some r => cond (Nat.blt t 16) (some ((i, t, x) :: r)) none
    | _, _ => none)
theorem rh_pkx_ok {e : rhEn} {L : rhLx} : ∀ {ks : List Nat} {r : rhLx}, rh_pkx L ks = some r → (∀ z ∈ rh_sL e r, z ∈ rh_sL e L) ∧ r.all (fun q => Nat.blt q.2.1 16) = true
  | [], r, hr => by cases hr; exact ⟨(fun z hz => by cases hz), rfl⟩
  | i :: l, r, hr => by
    unfold rh_pkx at hr
    split at hr
    · rename_i t x r0 h1 h2
      cases ht : Nat.blt t 16 with
      | false => rw [ht] at hr; cases hr
      | true =>
        rw [ht] at hr
        cases hr
        obtain ⟨a, b⟩ := rh_pkx_ok (e := e) h2
        refine ⟨fun z hz => ?_, by simp only [List.all_cons, ht, b, Bool.and_self]⟩
        rcases List.mem_cons.mp hz with rfl | hz
        · obtain ⟨j, hj⟩ := rh_fl1_j (e := e) h1
          exact List.mem_of_getElem? hj
        · exact a z hz
    · cases hr
def rh_frs (b : Bool) (i : Nat) (st : rhSt) : Bool := st.1.all (fun q => rh_no b i q.2.2) && (st.2.1.all (fun q => rh_no b i q.2) && (rh_no b i st.2.2.1 && st.2.2.2.1.all (fun q => rh_no b i q.1 && rh_no b i q.2.2)))
theorem rh_frs_i {e : rhEn} {i : Nat} {v : Int} {st : rhSt} (hf : rh_frs false i st = true) : rh_sL (rh_ei e i v) st.1 = rh_sL e st.1 ∧ rh_sS (rh_ei e i v) st.2.1 = rh_sS e st.2.1 ∧ rh_den (rh_ei e i v) st.2.2.1 = rh_den e st.2.2.1 ∧ (rh_KB e st.2.2.2.1 → rh_KB (rh_ei e i v) st.2.2.2.1) := by
  unfold rh_frs at hf
  simp only [Bool.and_eq_true] at hf
  obtain ⟨h1, h2, h3, h4⟩ := hf
  refine ⟨?_, ?_, rh_no_i h3, fun hk q hq => ?_⟩
  · unfold rh_sL
    apply List.map_congr_left
    intro q hq
    rw [rh_no_i (List.all_eq_true.mp h1 q hq)]
  · unfold rh_sS
    apply List.map_congr_left
    intro q hq
    rw [rh_no_i (List.all_eq_true.mp h2 q hq)]
  · have h5 := List.all_eq_true.mp h4 q hq
    simp only [Bool.and_eq_true] at h5
    rw [rh_no_i h5.1, rh_no_i h5.2]
    exact hk q hq
theorem rh_frs_m {e : rhEn} {i : Nat} {v : rhM} {st : rhSt} (hf : rh_frs true i st = true) : rh_sL (rh_em e i v) st.1 = rh_sL e st.1 ∧ rh_sS (rh_em e i v) st.2.1 = rh_sS e st.2.1 ∧ rh_den (rh_em e i v) st.2.2.1 = rh_den e st.2.2.1 ∧ (rh_KB e st.2.2.2.1 → rh_KB (rh_em e i v) st.2.2.2.1) := by
  unfold rh_frs at hf
  simp only [Bool.and_eq_true] at hf
  obtain ⟨h1, h2, h3, h4⟩ := hf
  refine ⟨?_, ?_, rh_no_m h3, fun hk q hq => ?_⟩
  · unfold rh_sL
    apply List.map_congr_left
    intro q hq
    rw [rh_no_m (List.all_eq_true.mp h1 q hq)]
  · unfold rh_sS
    apply List.map_congr_left
    intro q hq
    rw [rh_no_m (List.all_eq_true.mp h2 q hq)]
  · have h5 := List.all_eq_true.mp h4 q hq
    simp only [Bool.and_eq_true] at h5
    rw [rh_no_m h5.1, rh_no_m h5.2]
    exact hk q hq
/-- a switch: what it looks at, what is owed, where it goes -/
def rh_sw (d : rhDc) (pc : Nat) (st : rhSt) : Option (rhX × List rhX × List (Int × Nat) × Nat × rhSt) := match d with
  | .ok (.tableswitch dflt lo hi offs, _) => (match st.2.1 with
    | (t, x) :: S => cond (rh_ik t && (decide (0 ≤ (pc : Int) + dflt) && (decide (hi + 1 = lo + (offs.size : Int)) && offs.toList.all (fun o => decide (0 ≤ (pc : Int) + o)))))
      (some (x, rh_oI t x, (rh_num 0 offs.toList).map (fun q => (lo + (q.1 : Int), ((pc : Int) + q.2).toNat)), ((pc : Int) + dflt).toNat, st.1, S, st.2.2)) none
    | _ => none)
  | _ => none
theorem rh_num_get {α : Type} : ∀ {i : Nat} {l : List α} {j : Nat} {a : α}, l[j]? = some a → (i + j, a) ∈ rh_num i l
  | _, [], _, _, hh => by cases hh
  | i, x :: l, 0, a, hh => by
    have : x = a := by simpa using hh
    subst this
    exact List.mem_cons_self
  | i, x :: l, j + 1, a, hh => by
    have h2 : l[j]? = some a := by simpa using hh
    have := rh_num_get (i := i + 1) h2
    rw [show i + 1 + j = i + (j + 1) by omega] at this
    exact List.mem_cons_of_mem _ this
theorem rh_num_inv {α : Type} : ∀ {i : Nat} {l : List α} {q : Nat × α}, q ∈ rh_num i l → i ≤ q.1 ∧ l[q.1 - i]? = some q.2
  | _, [], _, hh => by cases hh
  | i, x :: l, q, hh => by
    rcases List.mem_cons.mp hh with rfl | hh
    · simp
    · obtain ⟨a, b⟩ := rh_num_inv hh
      refine ⟨by omega, ?_⟩
      rw [show q.1 - i = (q.1 - (i + 1)) + 1 by omega]
      simpa using b
theorem rh_sw_ok {pc : Nat} {st s : rhSt} {x : rhX} {o : List rhX} {cs : List (Int × Nat)} {df : Nat} (hr : rh_sw (decode (ry_c Y) pc) pc st = some (x, o, cs, df, s)) : s.2.2.2.1 = st.2.2.2.1 ∧ ∀ (e : rhEn), rh_hold e o →
    (∀ q ∈ cs, (rh_den e x).1 = q.1 → ∀ (n : Nat) (Q : rhQ), rh_at w Y n Q e q.2 s → rh_at w Y n Q e pc st) ∧
    ((∀ q ∈ cs, (rh_den e x).1 ≠ q.1) → ∀ (n : Nat) (Q : rhQ), rh_at w Y n Q e df s → rh_at w Y n Q e pc st) := by
  obtain ⟨L, S0, M, kb, nx⟩ := st
  unfold rh_sw at hr
  split at hr
  · rename_i dflt lo hi offs len hd
    split at hr
    · rename_i t x0 S hS
      simp only at hS
      subst hS
      cases hb : rh_ik t && (decide (0 ≤ (pc : Int) + dflt) && (decide (hi + 1 = lo + (offs.size : Int)) && offs.toList.all (fun o => decide (0 ≤ (pc : Int) + o)))) with
      | false => rw [hb] at hr; cases hr
      | true =>
        rw [hb] at hr
        simp only [Bool.and_eq_true, decide_eq_true_eq] at hb
        obtain ⟨b1, b2, b3, b4⟩ := hb
        cases hr
        refine ⟨rfl, fun e ho => ⟨fun q hq hx n Q K => ?_, fun hx n Q K => ?_⟩⟩
        · obtain ⟨p, hp, rfl⟩ := List.mem_map.mp hq
          obtain ⟨-, hp2⟩ := rh_num_inv hp
          have hp3 : offs[p.1]? = some p.2 := by simpa using hp2
          have hlt : p.1 < offs.size := (Array.getElem?_eq_some_iff.mp hp3).1
          have hp4 : 0 ≤ (pc : Int) + p.2 := of_decide_eq_true (List.all_eq_true.mp b4 p.2 (List.mem_of_getElem? hp2))
          simp only at hx
          refine rh_tswIn ((pc : Int) + p.2).toNat hd b1 (rh_oI_ok ho) (show ¬ (rh_den e x).1 < lo by omega) (show ¬ hi < (rh_den e x).1 by omega) (off := p.2) ?_ (Int.toNat_of_nonneg hp4).symm K
          show offs[((rh_den e x).1 - lo).toNat]? = some p.2
          rw [hx, show (lo + (p.1 : Int) - lo).toNat = p.1 by omega]
          exact hp3
        · refine rh_tswOut ((pc : Int) + dflt).toNat hd b1 (rh_oI_ok ho) ?_ (Int.toNat_of_nonneg b2).symm K
          by_cases h1 : (rh_den e x).1 < lo
          · exact .inl h1
          · by_cases h2 : hi < (rh_den e x).1
            · exact .inr h2
            · exfalso
              have hlt : ((rh_den e x).1 - lo).toNat < offs.size := by omega
              have hg : offs.toList[((rh_den e x).1 - lo).toNat]? = some offs[((rh_den e x).1 - lo).toNat] := by simp [hlt]
              have := rh_num_get (i := 0) hg
              refine hx _ (List.mem_map.mpr ⟨_, this, rfl⟩) ?_
              simp only
              omega
    · cases hr
  · cases hr
theorem rh_sw_dk {pc : Nat} {st : rhSt} {dt : rhDt} {r : rhX × List rhX × List (Int × Nat) × Nat × rhSt} (hd : rh_dok (ry_c Y) dt) (hr : rh_sw (rh_dk dt pc) pc st = some r) : rh_sw (decode (ry_c Y) pc) pc st = some r := by
  rcases hd pc with hq | hq
  · rw [hq] at hr; exact hr
  · rw [hq] at hr
    cases hr
def rh_swf (x : rhX) (d : Option rhX) : List (Int × Option rhX) → Option rhX
  | [] => d
  | q :: l => (match q.2, rh_swf x d l with
    | some a, some b => some (.sub (.pow (.add x (.num q.1)) 2) (.add a b))
    | _, _ => none)
theorem rh_swf_ok {e : rhEn} {x : rhX} {d : Option rhX} : ∀ {l : List (Int × Option rhX)} {g : rhX}, rh_swf x d l = some g → rh_dF w [] 0 B A g e → (∃ q ∈ l, (rh_den e x).1 = q.1 ∧ ∃ a, q.2 = some a ∧ rh_dF w [] 0 B A a e) ∨ ((∀ q ∈ l, (rh_den e x).1 ≠ q.1) ∧ ∃ a, d = some a ∧ rh_dF w [] 0 B A a e)
  | [], g, hg, H => .inr ⟨(fun q hq => by cases hq), g, hg, H⟩
  | q :: l, g, hg, H => by
    unfold rh_swf at hg
    split at hg
    · rename_i a b ha hb
      cases hg
      have H2 : ((rh_den e x).1 = q.1 → rh_dF w [] 0 B A a e) ∧ (¬ (rh_den e x).1 = q.1 → rh_dF w [] 0 B A b e) := H
      by_cases hx : (rh_den e x).1 = q.1
      · exact .inl ⟨q, List.mem_cons_self, hx, a, ha, H2.1 hx⟩
      · rcases rh_swf_ok hb (H2.2 hx) with ⟨p, hp, h1, h2⟩ | ⟨h1, h2⟩
        · exact .inl ⟨p, List.mem_cons_of_mem _ hp, h1, h2⟩
        · refine .inr ⟨fun p hp => ?_, h2⟩
          rcases List.mem_cons.mp hp with rfl | hp
          · exact hx
          · exact h1 p hp
    · cases hg
def rh_has : List Nat → Nat → Bool
  | [], _ => false
  | a :: l, i => cond (Nat.beq a i) true (rh_has l i)
def rh_go (lo hi : Nat) (Y : rhY) (l : rhLn) (hn : rhHn) : Nat → Nat → Nat → rhSt → Option rhX
  | 0, _, _, _ => none
  | f + 1, ph, pc, st => (match (cond (Nat.beq ph 1) (rh_fc hn.1 pc) none : Option (List Nat)) with
    | some ks => (match rh_pkx st.1 ks with
      | some L' => some (.pow (.sub st.2.2.1 (.add (rh_cL L') (rh_cSt st.2.1))) pc)
      | none => none)
    | none => cond (Nat.blt ph 2 && rh_has hn.2.2.1 pc) (match st.2.1 with
        | (t, x) :: S => cond (rh_frs false st.2.2.2.2 (st.1, S, st.2.2)) (match rh_go lo hi Y l hn f 2 pc (st.1, (t, .var st.2.2.2.2) :: S, st.2.2.1, st.2.2.2.1, st.2.2.2.2 + 1) with
          | some g => some (.mul (.var st.2.2.2.2) (.add x g))
          | none => none) none
        | _ => none)
      (cond (Nat.blt ph 2 && rh_has hn.2.2.2 pc) (cond (rh_frs true st.2.2.2.2 (st.1, st.2.1, .num 0, st.2.2.2)) (match rh_go lo hi Y l hn f 2 pc (st.1, st.2.1, .natCast st.2.2.2.2, st.2.2.2.1, st.2.2.2.2 + 1) with
          | some g => some (.mul (.natCast st.2.2.2.2) (.add st.2.2.1 g))
          | none => none) none)
      (match rh_rte (ry_r Y) (rh_dk l.2.2.2.2 pc) st with
      | some (o, v) => some (rh_cj o (.pow (.add v st.2.2.1) 0))
      | none => (match rh_fh hn.2.1 pc with
        | some (T, F, J) => (match rh_tst lo hi Y l T F f pc st with
          | some (C, o, s) => cond (Nat.beq J 0) (match rh_go lo hi Y l hn f 1 T s, rh_go lo hi Y l hn f 1 F s with
              | some a, some b => some (rh_cj o (.sub C (.add a b)))
              | _, _ => none)
            (cond (Nat.blt T 65536 && (Nat.blt F 65536 && Nat.blt J 65536)) (match rh_arm lo hi Y l hn.2.1 f J T s, rh_arm lo hi Y l hn.2.1 f J F s with
              | some (o1, s1), some (o2, s2) => (match rh_mg C s1 s2 s with
                | some s3 => (match rh_go lo hi Y l hn f 1 J s3 with
                  | some g => some (rh_cj (o ++ (rh_grd C o1 ++ rh_grd (rh_neg C) o2)) g)
                  | none => none)
                | none => none)
              | _, _ => none) none)
          | none => none)
        | none => (match rh_br (rh_dk l.2.2.2.2 pc) (rh_dk l.2.2.2.2 (pc + 1)) pc st with
          | some (c, o, tg, nx, s) => (match rh_go lo hi Y l hn f 1 tg s, rh_go lo hi Y l hn f 1 nx s with
            | some a, some b => some (rh_cj o (.sub c (.add a b)))
            | _, _ => none)
          | none => (match rh_stp lo hi (ry_L Y) l (rh_dk l.2.2.2.2 pc) pc st with
            | some (o, pc', s) => (match rh_go lo hi Y l hn f 1 pc' s with
              | some g => some (rh_cj o g)
              | none => none)
            | none => (match rh_sw (rh_dk l.2.2.2.2 pc) pc st with
              | some (x, o, cs, df, s) => (match rh_swf x (rh_go lo hi Y l hn f 1 df s) (cs.map fun q => (q.1, rh_go lo hi Y l hn f 1 q.2 s)) with
                | some g => some (rh_cj o g)
                | none => none)
              | none => none)))))))
theorem rh_at_of {e : rhEn} {n : Nat} {Q : rhQ} {pc : Nat} {s : rhSt} (hp : pc < 65536) (K : rh_ax w Y n Q e pc s) : rh_at w Y n Q e pc s := by
  rcases K with ⟨a, _⟩ | ⟨_, b⟩
  · omega
  · exact b
theorem rh_go_ok {l : rhLn} {hn : rhHn} (hs : rh_sd lo hi w) (hl : rh_lok w Y h l) : ∀ {f ph pc : Nat} {st : rhSt} {g : rhX}, rh_go lo hi Y l hn f ph pc st = some g → ∀ e : rhEn, e.2.2 = w → rh_KB e st.2.2.2.1 → rh_dF w [] 0 B A g e → rh_lf w Y h e pc st A B
  | 0, _, _, _, _, hr => by cases hr
  | f + 1, ph, pc, st, g, hr => by
    intro e hw hk H
    unfold rh_go at hr
    split at hr
    · rename_i ks hks
      split at hr
      · rename_i L' hL
        cases hr
        obtain ⟨a, b⟩ := rh_pkx_ok (e := e) hL
        have H2 : A pc (rh_dL e (rh_cL L')) (rh_dS e (rh_cSt st.2.1)) (rh_den e st.2.2.1).2.1 := H
        rw [rh_cL_d e b, rh_cSt_d e] at H2
        exact .inl ⟨_, _, _, _, H2, fun n Q K => rh_lessM a K⟩
      · cases hr
    · cases hv : Nat.blt ph 2 && rh_has hn.2.2.1 pc with
      | true =>
        rw [hv] at hr
        simp only [cond_true] at hr
        obtain ⟨L, S0, M, kb, nx⟩ := st
        split at hr
        · rename_i t x S hS
          simp only at hS
          subst hS
          cases hf : rh_frs false nx (L, S, M, kb, nx) with
          | false => rw [hf] at hr; cases hr
          | true =>
            rw [hf] at hr
            simp only [cond_true] at hr
            split at hr
            · rename_i g0 hg
              cases hr
              obtain ⟨f1, f2, f3, f4⟩ := rh_frs_i (e := e) (v := (rh_den e x).1) hf
              have H2 : ∀ v : Int, v = (rh_den e x).1 → rh_dF w [] 0 B A g0 (rh_ei e nx v) := H
              have ih := rh_go_ok hs hl hg (rh_ei e nx (rh_den e x).1) hw (f4 hk) (H2 _ rfl)
              unfold rh_lf at ih ⊢
              simp only at f1 f2 f3 ih ⊢
              rw [f1, f3] at ih
              have hS2 : rh_sS (rh_ei e nx (rh_den e x).1) ((t, .var nx) :: S) = rh_sS e ((t, x) :: S) := by
                simp only [rh_sS, List.map_cons] at f2 ⊢
                rw [f2]
                simp [rh_den, rh_ei, rh_vi]
              rw [hS2] at ih
              exact ih
            · cases hr
        · cases hr
      | false =>
        rw [hv] at hr
        simp only [cond_false] at hr
        cases hm : Nat.blt ph 2 && rh_has hn.2.2.2 pc with
        | true =>
          rw [hm] at hr
          simp only [cond_true] at hr
          obtain ⟨L, S0, M, kb, nx⟩ := st
          cases hf : rh_frs true nx (L, S0, .num 0, kb, nx) with
          | false => rw [hf] at hr; cases hr
          | true =>
            rw [hf] at hr
            simp only [cond_true] at hr
            split at hr
            · rename_i g0 hg
              cases hr
              obtain ⟨f1, f2, f3, f4⟩ := rh_frs_m (e := e) (v := (rh_den e M).2.1) hf
              have H2 : ∀ v : rhM, v = (rh_den e M).2.1 → rh_dF w [] 0 B A g0 (rh_em e nx v) := H
              have ih := rh_go_ok hs hl hg (rh_em e nx (rh_den e M).2.1) hw (f4 hk) (H2 _ rfl)
              unfold rh_lf at ih ⊢
              simp only at f1 f2 ih ⊢
              rw [f1, f2] at ih
              have hM2 : (rh_den (rh_em e nx (rh_den e M).2.1) (.natCast nx)).2.1 = (rh_den e M).2.1 := by
                simp [rh_den, rh_em, rh_vm]
              rw [hM2] at ih
              exact ih
            · cases hr
        | false =>
          rw [hm] at hr
          simp only [cond_false] at hr
          split at hr
          · rename_i o v hre
            cases hr
            obtain ⟨ho, H2⟩ := rh_cj_d H
            exact .inr ⟨_, _, H2, fun n Q K => rh_rte_ok (rh_rte_dk hl.2.2.2.2 hre) _ Q e ho K⟩
          · split at hr
            · rename_i T F J hh
              split at hr
              · rename_i C o s ht
                cases hJ : Nat.beq J 0 with
                | true =>
                  rw [hJ] at hr
                  simp only [cond_true] at hr
                  split at hr
                  · rename_i a b ha hb
                    cases hr
                    obtain ⟨ho, H2⟩ := rh_cj_d H
                    obtain ⟨k0, q0⟩ := rh_tst_ok hs hl ht e hw hk ho
                    have H3 : ((rh_den e C).2.2 → rh_dF w [] 0 B A a e) ∧ (¬ (rh_den e C).2.2 → rh_dF w [] 0 B A b e) := H2
                    by_cases hC : (rh_den e C).2.2
                    · exact rhLf.step (fun n Q K => q0 n Q (fun _ => K) (fun hz => absurd hC hz)) (rh_go_ok hs hl ha e hw k0 (H3.1 hC))
                    · exact rhLf.step (fun n Q K => q0 n Q (fun hz => absurd hz hC) (fun _ => K)) (rh_go_ok hs hl hb e hw k0 (H3.2 hC))
                  · cases hr
                | false =>
                  rw [hJ] at hr
                  simp only [cond_false] at hr
                  cases hTF : Nat.blt T 65536 && (Nat.blt F 65536 && Nat.blt J 65536) with
                  | false => rw [hTF] at hr; cases hr
                  | true =>
                    rw [hTF] at hr
                    simp only [cond_true] at hr
                    simp only [Bool.and_eq_true] at hTF
                    have hT := rh_blt hTF.1
                    have hF := rh_blt hTF.2.1
                    have hJ := rh_blt hTF.2.2
                    split at hr
                    · rename_i o1 s1 o2 s2 h1 h2
                      split at hr
                      · rename_i s3 h3
                        split at hr
                        · rename_i g0 hg
                          cases hr
                          obtain ⟨ho, H2⟩ := rh_cj_d H
                          obtain ⟨p0, pp⟩ := rh_hold_a ho
                          obtain ⟨p1, p2⟩ := rh_hold_a pp
                          obtain ⟨k0, q0⟩ := rh_tst_ok hs hl ht e hw hk p0
                          have hk3 : rh_KB e s3.2.2.2.1 := by
                            unfold rh_mg at h3
                            split at h3
                            · cases h3; exact k0
                            · cases h3
                          refine rhLf.step (fun n Q K => ?_) (rh_go_ok hs hl hg e hw hk3 H2)
                          have K3 : rh_ax w Y (n + h) Q e J s3 := .inr ⟨hJ, K⟩
                          by_cases hC : (rh_den e C).2.2
                          · exact q0 n Q (fun _ => rh_at_of hT ((rh_arm_ok hs hl h1 e hw k0 (rh_grd_ok p1 hC)).2 n Q (rh_mg_t h3 hC K3))) (fun hz => absurd hC hz)
                          · exact q0 n Q (fun hz => absurd hz hC) (fun _ => rh_at_of hF ((rh_arm_ok hs hl h2 e hw k0 (rh_grd_ok p2 (rh_neg_d.mpr hC))).2 n Q (rh_mg_f h3 hC K3)))
                        · cases hr
                      · cases hr
                    · cases hr
              · cases hr
            · split at hr
              · rename_i c o tg nx s hb
                obtain ⟨hkb, hbr⟩ := rh_br_ok (w := w) (rh_br_dk hl.2.2.2.2 hb)
                split at hr
                · rename_i a b ha hb2
                  cases hr
                  obtain ⟨ho, H2⟩ := rh_cj_d H
                  have k0 : rh_KB e s.2.2.2.1 := by
                    have : s.2.2.2.1 = st.2.2.2.1 := hkb
                    rw [this]; exact hk
                  have H3 : ((rh_den e c).2.2 → rh_dF w [] 0 B A a e) ∧ (¬ (rh_den e c).2.2 → rh_dF w [] 0 B A b e) := H2
                  by_cases hC : (rh_den e c).2.2
                  · exact rhLf.step (fun n Q K => hbr (n + h) Q e ho (fun _ => K) (fun hz => absurd hC hz)) (rh_go_ok hs hl ha e hw k0 (H3.1 hC))
                  · exact rhLf.step (fun n Q K => hbr (n + h) Q e ho (fun hz => absurd hz hC) (fun _ => K)) (rh_go_ok hs hl hb2 e hw k0 (H3.2 hC))
                · cases hr
              · split at hr
                · rename_i o pc' s hst
                  split at hr
                  · rename_i g0 hg
                    cases hr
                    obtain ⟨ho, H2⟩ := rh_cj_d H
                    have k0 := (rh_stp_ok hs hl (rh_stp_dk hl.2.2.2.2 hst) 0 (fun _ _ => True, fun _ => True) e hw hk ho).1
                    exact rhLf.step (fun n Q K => (rh_stp_ok hs hl (rh_stp_dk hl.2.2.2.2 hst) n Q e hw hk ho).2 K) (rh_go_ok hs hl hg e hw k0 H2)
                  · cases hr
                · split at hr
                  · rename_i x o cs df s hsw
                    split at hr
                    · rename_i g0 hg
                      cases hr
                      obtain ⟨ho, H2⟩ := rh_cj_d H
                      obtain ⟨hkb, hsw2⟩ := rh_sw_ok (w := w) (rh_sw_dk hl.2.2.2.2 hsw)
                      obtain ⟨s1, s2⟩ := hsw2 e ho
                      have k0 : rh_KB e s.2.2.2.1 := by rw [hkb]; exact hk
                      rcases rh_swf_ok hg H2 with ⟨q, hq, hx, a, ha, Ha⟩ | ⟨hx, a, ha, Ha⟩
                      · obtain ⟨q0, hq0, rfl⟩ := List.mem_map.mp hq
                        exact rhLf.step (fun n Q K => s1 q0 hq0 hx _ Q K) (rh_go_ok hs hl ha e hw k0 Ha)
                      · exact rhLf.step (fun n Q K => s2 (fun q hq => hx _ (List.mem_map.mpr ⟨q, hq, rfl⟩)) _ Q K) (rh_go_ok hs hl ha e hw k0 Ha)
                    · cases hr
                  · cases hr
/-- the executor's print is the text's -/
def rh_goc (lo hi : Nat) (Y : rhY) (l : rhLn) (hn : rhHn) (pc : Nat) (st : rhSt) (g : rhX) : Bool := match rh_go lo hi Y l hn 3000 0 pc st with
  | some x => rh_xe x g
  | none => false
theorem rh_reg {l : rhLn} {hn : rhHn} (hs : rh_sd lo hi w) (hl : rh_lok w Y h l) {pc : Nat} {st : rhSt} {g : rhX} (hg : rh_goc lo hi Y l hn pc st g = true) (e : rhEn) (hw : e.2.2 = w) (hk : rh_KB e st.2.2.2.1) (H : rh_dF w [] 0 B A g e) : rh_lf w Y h e pc st A B := by
  unfold rh_goc at hg
  split at hg
  · rename_i x hx
    obtain rfl := rh_xe_eq hg
    exact rh_go_ok hs hl hx e hw hk H
  · cases hg
end RhGo
