/-! SQ 17: whether a seat can be bound; a seat bound -/
set_option maxRecDepth 100000
def kf_bok (A : qkA) (src osrc : Nat) (sent : List qkC) (sv osv : Nat → Int32) (orows : List qkRow) (l : qkC) : Bool := kf_can (src / 2) 0 (kf_colOf l (sv 0)) && (decide (aFb A osrc (src / 2) = 0) && decide (kf_cost src (kf_keys (kf_colOf l (osv 0)) orows).length < kf_scost A src sent.length))
theorem bind_no {A : qkA} {src osrc : Nat} {sent : List qkC} {sv osv : Nat → Int32} {orows : List qkRow} {l : qkC} {b d : Int32} {f : Nat → Int32} (h : kf_bok A src osrc sent sv osv orows l = false) : kf_bind A src osrc sent sv osv orows l b d f = (0, A, f, sv, []) := by
  unfold kf_bok at h
  unfold kf_bind
  by_cases c1 : kf_can (src / 2) 0 (kf_colOf l (sv 0)) = false
  · rw [if_pos c1]
  rw [if_neg c1]
  rw [eq_true_of_ne_false c1, Bool.true_and] at h
  by_cases c2 : ¬ aFb A osrc (src / 2) = 0
  · rw [if_pos c2]
  rw [if_neg c2]
  rw [decide_eq_true (Classical.not_not.mp c2), Bool.true_and] at h
  rw [if_pos (of_decide_eq_false h)]
theorem bind_ok {A : qkA} {src osrc : Nat} {sent : List qkC} {sv osv : Nat → Int32} {orows : List qkRow} {l : qkC} {b d : Int32} {f : Nat → Int32} (h : kf_bok A src osrc sent sv osv orows l = true) : kf_bind A src osrc sent sv osv orows l b d f = kf_bl src sent (kf_keys (kf_colOf l (osv 0)) orows) (kf_colOf l (sv 0)) b d (kf_scost A src sent.length) (((kf_keys (kf_colOf l (osv 0)) orows).length + 3) / 4) 0 A f (upd (upd sv 7 1) 8 (aQ A 14)) [] := by
  unfold kf_bok at h
  rw [Bool.and_eq_true, Bool.and_eq_true, decide_eq_true_eq, decide_eq_true_eq] at h
  unfold kf_bind
  rw [if_neg (by rw [h.1]; decide), if_neg (fun z => z h.2.1), if_neg (fun z => z h.2.2)]
theorem km_canBind {A : qkA} {S : qm_S} {T M i o k src osrc a b' : Nat} {lk : qkC} {raw : List qkRow} {sv osv : Nat → Int32} {K : Int32 → qm_S → Prop} (h : qkB A S) (hi : qkI T M A) (hs : (aSeat A)[i]? = some (nI src)) (h6 : src < 6) (hos : (aSeat A)[o]? = some (nI osrc)) (ho6 : osrc < 6) (hlk : (aLink A)[k]? = some lk) (ha : lk.1 = nI a) (hb : lk.2.2.1 = nI b') (hab : a < b') (hio : (i = a ∧ o = b') ∨ (i = b' ∧ o = a)) (hsv : sv 0 = nI i) (hosv : osv 0 = nI o) (hraw : rSeat S o raw)
    (hk0 : kf_bok A src osrc (kf_sent A (nI i) src) sv osv (raw.filter (fun r => kf_all (kf_own A (nI o)) r)) lk = false → ∀ S' : qm_S, (∀ k, k ≠ 63 → S'.1 k = S.1 k) → (∀ k, k ≠ 64 → S'.2 k = S.2 k) → K 0 S')
    (hk1 : kf_bok A src osrc (kf_sent A (nI i) src) sv osv (raw.filter (fun r => kf_all (kf_own A (nI o)) r)) lk = true → ∀ S' : qm_S, (∀ k, k ≠ 63 → S'.1 k = S.1 k) → (∀ k, k ≠ 64 → S'.2 k = S.2 k) → S'.1 63 = nI (kf_keys (kf_colOf lk (osv 0)) (raw.filter (fun r => kf_all (kf_own A (nI o)) r))).length → rKeys S' (kf_keys (kf_colOf lk (osv 0)) (raw.filter (fun r => kf_all (kf_own A (nI o)) r))) → K 1 S') : T_X8_canBind (nI i) (nI k) S K := by
  obtain ⟨hT, hL, hR, hS, hD, hE, hB⟩ := h
  have iD' := hi.2.2.2.1
  have hil := (List.getElem?_eq_some_iff.mp hs).1
  have hol := (List.getElem?_eq_some_iff.mp hos).1
  have hkl := (List.getElem?_eq_some_iff.mp hlk).1
  have h3 := iD'.1.1
  have hl3 := iD'.2.1.1
  have hmem := iD'.2.1.2 lk (List.mem_of_getElem? hlk)
  obtain ⟨_, ⟨ca, hca, eca⟩, ⟨cb, hcb, ecb⟩⟩ := hmem
  obtain ⟨l1, l2, l3, l4⟩ := hD.2.1.2 k lk hlk
  have ho3 : o < 3 := by omega
  have hclen : ∀ col, (kf_keys col (raw.filter (fun r => kf_all (kf_own A (nI o)) r))).length ≤ 12 := fun col => Nat.le_trans keys_len (Nat.le_trans (List.length_filter_le _ _) hraw.2.1)
  -- the part behind the columns
  have main : ∀ (cI cO : Nat), cI < 4 → cO < 4 → kf_colOf lk (sv 0) = nI cI → kf_colOf lk (osv 0) = nI cO → ((b2 (kf_can (src / 2) 0 (nI cI)) = 0 → K 0 S) ∧ (¬ b2 (kf_can (src / 2) 0 (nI cI)) = 0 → vp_in (nI o) (qm_len 23) ∧ p_X8_isForbidden (S.2 23 o) (f_X8_storeOf (nI src)) S ∧ ((f_X8_isForbidden (S.2 23 o) (f_X8_storeOf (nI src)) S) = 0 → T_X8_laysKeys (nI o) (nI cO) S (fun S20 => vp_in (f_X8_storeOf (nI src)) (qm_len 18) ∧ vp_in (f_X8_storeOf (nI src)) (qm_len 19) ∧ T_X8_guess (nI i) S20 (fun r23 => (((S20.2 18 (src / 2)) + (r23 * (S20.2 19 (src / 2)))) ≤ (((((S20.1 63) + 3) / 4) * (S20.2 18 (src / 2))) + ((S20.1 63) * (S20.2 19 (src / 2)))) → K 0 S20) ∧ (¬ ((S20.2 18 (src / 2)) + (r23 * (S20.2 19 (src / 2)))) ≤ (((((S20.1 63) + 3) / 4) * (S20.2 18 (src / 2))) + ((S20.1 63) * (S20.2 19 (src / 2)))) → K 1 S20)))) ∧ (¬ (f_X8_isForbidden (S.2 23 o) (f_X8_storeOf (nI src)) S) = 0 → K 0 S))) := by
    intro cI cO hcI hcO eI eO
    unfold kf_bok at hk0 hk1
    rw [eI, eO] at hk0 hk1
    refine bz (fun w => hk0 (by rw [w]; rfl) S (fun _ _ => rfl) (fun _ _ => rfl)) (fun w => ?_)
    rw [w, Bool.true_and] at hk0 hk1
    rw [hD.1.2 o _ hos, fm_half h6, fm_forb ho6 (by omega) (hS osrc ho6).2.2.1 hi.2.2.1]
    refine ⟨pk_in o 3 (by omega), pk_in osrc 6 ho6, fun w1 => ?_, fun w1 => hk0 (by rw [decide_eq_false w1]; rfl) S (fun _ _ => rfl) (fun _ _ => rfl)⟩
    rw [decide_eq_true w1, Bool.true_and] at hk0 hk1
    refine km_laysKeys hD iD' ho3 hcO hraw (fun S1 f1 f2 f63 fK => ?_)
    have hDs : cD A S1 := hD.fr (fun k _ _ => f1 k (by omega)) (fun k _ _ => f2 k (by omega))
    refine ⟨pk_in (src / 2) 3 (by omega), pk_in (src / 2) 3 (by omega), km_guess hDs iD' hs h6 (by rw [f2 21 (by decide)]; exact (hS src h6).2.2.2) (hi.1 src h6).2.2.2 ?_⟩
    obtain ⟨_, _, _, _, _, _, _, _, _, g18, g19⟩ := hL (src / 2) (by omega)
    have hcl := hclen (nI cO)
    rw [f2 18 (by decide), f2 19 (by decide), g18, g19, f63]
    have hdv : (nI (kf_keys (nI cO) (raw.filter (fun r => kf_all (kf_own A (nI o)) r))).length + 3) / (4 : Int32) = nI (((kf_keys (nI cO) (raw.filter (fun r => kf_all (kf_own A (nI o)) r))).length + 3) / 4) := by
      rw [p_3]
      exact pk_div (d := 4) (by omega) (by decide) (by decide)
    rw [hdv]
    have hsc : kf_fee (src / 2) + kf_guess (aSr A src 5) (kf_sent A (nI i) src).length * kf_freight (src / 2) = kf_scost A src (kf_sent A (nI i) src).length := by
      unfold kf_scost
      rw [Int32.mul_comm]
    rw [hsc]
    have hco : nI (((kf_keys (nI cO) (raw.filter (fun r => kf_all (kf_own A (nI o)) r))).length + 3) / 4) * kf_fee (src / 2) + nI (kf_keys (nI cO) (raw.filter (fun r => kf_all (kf_own A (nI o)) r))).length * kf_freight (src / 2) = kf_cost src (kf_keys (nI cO) (raw.filter (fun r => kf_all (kf_own A (nI o)) r))).length := rfl
    rw [hco]
    exact ⟨fun w2 => hk0 (decide_eq_false (Int32.not_lt.mpr w2)) S1 f1 f2, fun w2 => hk1 (decide_eq_true (Int32.not_le.mp w2)) S1 f1 f2 f63 fK⟩
  have hfm : ∀ c, f_X8_canDo (f_X8_storeOf (nI src)) c 0 = b2 (kf_can (src / 2) 0 c) := fun c => by rw [fm_half h6, fm_can (by omega)]
  unfold T_X8_canBind
  rw [nI_clamp (n := k) (by omega), nI_clamp (n := i) (by omega), l1, l2, l3, l4, ha, hb, eca, ecb, hD.1.2 i _ hs]
  have n10 : ¬ (1 : Int32) = 0 := by decide
  have hcs : (f_X8_storeOf (nI src)).toNatClampNeg = src / 2 := by rw [fm_half h6]; exact nI_clamp (by omega)
  have nab : ¬ nI b' = nI a := fun z => by have := (nI_eq (by omega) (by omega)).mp z; omega
  have nab' : ¬ nI a = nI b' := fun z => nab z.symm
  rcases hio with ⟨rfl, rfl⟩ | ⟨rfl, rfl⟩
  · simp only [if_true, if_neg n10]
    rw [nI_clamp (n := o) (by omega), hcs, hfm]
    refine ⟨pk_in k 3 (by omega), ⟨fun z => absurd z n10, fun _ => pk_in k 3 (by omega)⟩, ⟨fun _ => trivial, fun _ => pk_in k 3 (by omega)⟩, pk_in i 3 (by omega), ?_⟩
    have hm := main ca cb hca hcb (by unfold kf_colOf; rw [hsv, if_pos ha.symm]; exact eca) (by unfold kf_colOf; rw [hosv, if_neg (by rw [ha]; exact nab)]; exact ecb)
    exact ⟨hm.1, fun w => ⟨(hm.2 w).1, (hm.2 w).2.1, fun w' => ⟨⟨fun z => absurd z n10, fun _ => pk_in k 3 (by omega)⟩, (hm.2 w).2.2.1 w'⟩, (hm.2 w).2.2.2⟩⟩
  · simp only [if_neg nab', if_true]
    rw [nI_clamp (n := o) (by omega), hcs, hfm]
    refine ⟨pk_in k 3 (by omega), ⟨fun _ => pk_in k 3 (by omega), fun z => absurd trivial z⟩, ⟨fun _ => trivial, fun z => absurd trivial z⟩, pk_in i 3 (by omega), ?_⟩
    have hm := main cb ca hcb hca (by unfold kf_colOf; rw [hsv, if_neg (by rw [ha]; exact nab)]; exact ecb) (by unfold kf_colOf; rw [hosv, if_pos ha.symm]; exact eca)
    exact ⟨hm.1, fun w => ⟨(hm.2 w).1, (hm.2 w).2.1, fun w' => ⟨⟨fun _ => pk_in k 3 (by omega), fun z => absurd trivial z⟩, (hm.2 w).2.2.1 w'⟩, (hm.2 w).2.2.2⟩⟩
