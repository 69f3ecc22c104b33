/-! SQ 32: a step of the bundle done, and taken back, on both sides -/
set_option maxRecDepth 100000
/-- the bundle's steps as the reference keeps them -/
def rStp (S : qm_S) (k : Nat) (f : Nat → Int32) : Prop := S.2 86 k = f 0 ∧ S.2 87 k = f 1 ∧ S.2 88 k = f 2 ∧ S.2 89 k = f 3 ∧ S.2 90 k = f 4 ∧ S.2 91 k = f 5
/-- a step's numbers are in order -/
def fOk (f : Nat → Int32) : Prop := (∃ s, s < 6 ∧ f 1 = nI s) ∧ ∃ k, k < 3 ∧ f 0 = nI k
/-- what the reference keeps for taking a step back -/
def rUndo (S : qm_S) (k : Nat) (f : Nat → Int32) (d : qkDone) : Prop := f 1 = nI d.1 ∧ d.1 < 6 ∧ (f 0 = 0 → ∃ r, d.2.1 = none ∧ d.2.2 = some r ∧ S.2 92 k = r.1) ∧ (f 0 = 1 → ∃ (r q : qkRow) (j : Nat), j < 4 ∧ f 3 = nI j ∧ d.2.1 = some r ∧ d.2.2 = some q ∧ q.1 = r.1 ∧ S.2 92 k = r.1 ∧ S.2 93 (4 * k) = r.2 j ∧ ∀ c, c < 4 → c ≠ j → q.2 c = r.2 c) ∧ (¬ f 0 = 0 → ¬ f 0 = 1 → ∃ r, d.2.1 = some r ∧ d.2.2 = none ∧ S.2 92 k = r.1 ∧ ∀ c, c < 4 → S.2 93 (4 * k + c) = r.2 c)
/-- what a step leaves as it is -/
def dF (k : Nat) (S S' : qm_S) : Prop := S'.1 0 = S.1 0 ∧ S'.1 85 = S.1 85 ∧ (∀ j, 86 ≤ j → j ≤ 91 → S'.2 j = S.2 j) ∧ (∀ j, j ≠ k → S'.2 92 j = S.2 92 j) ∧ ∀ p, (p < 4 * k ∨ 4 * k + 4 ≤ p) → S'.2 93 p = S.2 93 p
theorem kind3 {f : Nat → Int32} (h : fOk f) : f 0 = 0 ∨ f 0 = 1 ∨ (¬ f 0 = 0 ∧ ¬ f 0 = 1) := by
  by_cases a : f 0 = 0
  · exact Or.inl a
  · by_cases b : f 0 = 1
    · exact Or.inr (Or.inl b)
    · exact Or.inr (Or.inr ⟨a, b⟩)
/-! what the changes of rows answer, case by case -/
theorem src_ok {s : Nat} (hs : s < 6) : ¬ (nI s < 0 ∨ ¬ nI s < 6) := by
  rintro (z | z)
  · exact nI_pos (by omega) z
  · exact z (nI_lt (b := 6) hs (by decide))
theorem add_v2 {A : qkA} {s : Nat} {a b c d : Int32} (hs : s < 6) (h : kf_fits (s / 2) (kf_cell4 a b c d) = false) : kf_add A (nI s) a b c d = (2, 0, A) := by
  unfold kf_add
  rw [if_neg (src_ok hs), nI_clamp (n := s) (by omega), if_pos h]
theorem add_v3 {A : qkA} {s : Nat} {a b c d : Int32} (hs : s < 6) (h : kf_fits (s / 2) (kf_cell4 a b c d) = true) (h2 : kf_room A s a = false) : kf_add A (nI s) a b c d = (3, 0, A) := by
  unfold kf_add
  rw [if_neg (src_ok hs), nI_clamp (n := s) (by omega), if_neg (by rw [h]; decide), if_pos h2]
theorem add_v0 {A : qkA} {s : Nat} {a b c d : Int32} (hs : s < 6) (h : kf_fits (s / 2) (kf_cell4 a b c d) = true) (h2 : kf_room A s a = true) : kf_add A (nI s) a b c d = (0, kf_mark A s a, kf_written (kf_add1 A s a (kf_cell4 a b c d)) s) := by
  unfold kf_add
  rw [if_neg (src_ok hs), nI_clamp (n := s) (by omega), if_neg (by rw [h]; decide), if_neg (by rw [h2]; decide)]
theorem chg_v1 {A : qkA} {s : Nat} {m c x : Int32} (hs : s < 6) (h : kf_at (aRow A s) m = none ∨ (c < 0 ∨ ¬ c < kf_cols (s / 2))) : kf_change A (nI s) m c x = (1, 0, A) := by
  unfold kf_change
  rw [if_neg (src_ok hs), nI_clamp (n := s) (by omega)]
  cases hat : kf_at (aRow A s) m with
  | none => rfl
  | some k =>
    rw [hat] at h
    rcases h with h | h
    · cases h
    · dsimp only
      rw [if_pos h]
theorem chg_v2 {A : qkA} {s k : Nat} {m c x : Int32} (hs : s < 6) (hat : kf_at (aRow A s) m = some k) (h1 : ¬ (c < 0 ∨ ¬ c < kf_cols (s / 2))) (h2 : ((decide (0 < c) || !kf_hasKey (s / 2)) && kf_fit (s / 2) c x) = false) : kf_change A (nI s) m c x = (2, 0, A) := by
  unfold kf_change
  rw [if_neg (src_ok hs), nI_clamp (n := s) (by omega), hat]
  dsimp only
  rw [if_neg h1, if_pos h2]
theorem chg_v0 {A : qkA} {s k : Nat} {m c x : Int32} {r : qkRow} (hs : s < 6) (hat : kf_at (aRow A s) m = some k) (h1 : ¬ (c < 0 ∨ ¬ c < kf_cols (s / 2))) (h2 : ((decide (0 < c) || !kf_hasKey (s / 2)) && kf_fit (s / 2) c x) = true) (hr : (aRow A s)[k]? = some r) : kf_change A (nI s) m c x = (0, r.2 c.toNatClampNeg, kf_chg A s k r c x) := by
  unfold kf_change
  rw [if_neg (src_ok hs), nI_clamp (n := s) (by omega), hat]
  dsimp only
  rw [if_neg h1, if_neg (by rw [h2]; decide), hr]
theorem rem_v1 {A : qkA} {s : Nat} {m : Int32} (hs : s < 6) (h : kf_at (aRow A s) m = none) : kf_remove A (nI s) m = (1, 0, A) := by
  unfold kf_remove
  rw [if_neg (src_ok hs), nI_clamp (n := s) (by omega), h]
theorem rem_v0 {A : qkA} {s k : Nat} {m : Int32} (hs : s < 6) (h : kf_at (aRow A s) m = some k) : kf_remove A (nI s) m = (0, nI ((aRow A s).eraseIdx k).length, kf_written (sRow A (qkU (aRow A) s ((aRow A s).eraseIdx k))) s) := by
  unfold kf_remove
  rw [if_neg (src_ok hs), nI_clamp (n := s) (by omega), h]
theorem dn_a {A : qkA} {f : Nat → Int32} {s : Nat} {r : Int32 × Int32 × qkA} (hs : s < 6) (es : f 1 = nI s) (c0 : f 0 = 0) (e : kf_add A (nI s) (f 2) (f 3) (f 4) (f 5) = r) : kf_done A f = if r.1 = 0 then (some (s, none, kf_find r.2.2 s r.2.1), r.2.2) else (none, r.2.2) := by
  subst e
  unfold kf_done
  rw [if_pos c0, es, nI_clamp (n := s) (by omega)]
theorem dn_c {A : qkA} {f : Nat → Int32} {s : Nat} {r : Int32 × Int32 × qkA} (hs : s < 6) (es : f 1 = nI s) (c1 : f 0 = 1) (e : kf_change A (nI s) (f 2) (f 3) (f 4) = r) : kf_done A f = if r.1 = 0 then (some (s, kf_find A s (f 2), kf_find r.2.2 s (f 2)), r.2.2) else (none, r.2.2) := by
  subst e
  unfold kf_done
  rw [if_neg (by rw [c1]; decide), if_pos c1, es, nI_clamp (n := s) (by omega)]
theorem dn_r {A : qkA} {f : Nat → Int32} {s : Nat} {r : Int32 × Int32 × qkA} (hs : s < 6) (es : f 1 = nI s) (c0 : ¬ f 0 = 0) (c1 : ¬ f 0 = 1) (e : kf_remove A (nI s) (f 2) = r) : kf_done A f = if r.1 = 0 then (some (s, kf_find A s (f 2), none), r.2.2) else (none, r.2.2) := by
  subst e
  unfold kf_done
  rw [if_neg c0, if_neg c1, es, nI_clamp (n := s) (by omega)]
theorem km_canStep {A : qkA} {S : qm_S} {k : Nat} {f : Nat → Int32} {K : Int32 → Prop} (hR : cR A S) (hS : cS A S) (hi : iR A) (hk4 : k < 4) (hst : rStp S k f) (hf : fOk f) (hk : K (b2 (kf_done A f).1.isSome)) : T_X8_canStep (nI k) S K := by
  obtain ⟨s0, s1, s2, s3, s4, s5⟩ := hst
  obtain ⟨⟨s, hs, es⟩, hkd⟩ := hf
  unfold T_X8_canStep
  rw [nI_clamp (n := k) (by omega), s0, s1, s2, s3, s4, s5, es]
  have n10 : ¬ (1 : Int32) = 0 := by decide
  have n20 : ¬ (2 : Int32) = 0 := by decide
  have n30 : ¬ (3 : Int32) = 0 := by decide
  refine ⟨pk_in k 4 hk4, pk_in k 4 hk4, fun c0 => ⟨fun c1 => ?_, fun c1 => ?_⟩, fun c0 => ?_⟩
  · obtain ⟨hn, hRs⟩ := hR s hs
    obtain ⟨hrs, has, _⟩ := hi s hs
    refine ⟨pk_in k 4 hk4, km_placeOf hs hn hrs.1 hRs has ?_⟩
    have hpn := pl_none (m := f 2) hrs.1
    cases hat : kf_at (aRow A s) (f 2) with
    | none =>
      rw [dn_r hs es c0 c1 (rem_v1 hs hat), if_neg n10] at hk
      exact ⟨fun _ => hk, fun z => absurd (hpn.mpr hat) z⟩
    | some p =>
      rw [dn_r hs es c0 c1 (rem_v0 hs hat), if_pos rfl] at hk
      exact ⟨fun z => (by rw [hpn.mp z] at hat; cases hat), fun _ => hk⟩
  · refine ⟨pk_in k 4 hk4, pk_in k 4 hk4, pk_in k 4 hk4, ?_⟩
    refine km_canChange hs hR hi (fun z => ?_) (fun p j z1 z2 hj e z => ?_) (fun p j z1 z2 hj hj2 e z => ?_)
    · rw [dn_c hs es c1 (chg_v1 hs z), if_neg n10] at hk
      exact ⟨fun _ => hk, fun q => absurd q n10⟩
    · rw [dn_c hs es c1 (chg_v2 hs z1 z2 z), if_neg n20] at hk
      exact ⟨fun _ => hk, fun q => absurd q n20⟩
    · obtain ⟨hp, _⟩ := at_some z1
      rw [dn_c hs es c1 (chg_v0 hs z1 z2 z (List.getElem?_eq_getElem hp)), if_pos rfl] at hk
      exact ⟨fun q => absurd rfl q, fun _ => hk⟩
  · refine ⟨pk_in k 4 hk4, pk_in k 4 hk4, pk_in k 4 hk4, pk_in k 4 hk4, ?_⟩
    refine km_canAdd hs hR hi (hS s hs).1 (fun z => ?_) (fun z z' => ?_) (fun z z' => ?_)
    · rw [dn_a hs es c0 (add_v2 hs z), if_neg n20] at hk
      exact ⟨fun _ => hk, fun q => absurd q n20⟩
    · rw [dn_a hs es c0 (add_v3 hs z z'), if_neg n30] at hk
      exact ⟨fun _ => hk, fun q => absurd q n30⟩
    · rw [dn_a hs es c0 (add_v0 hs z z'), if_pos rfl] at hk
      exact ⟨fun q => absurd rfl q, fun _ => hk⟩
theorem find_at {A : qkA} {s : Nat} {m : Int32} {k : Nat} {r : qkRow} (h : kf_at (aRow A s) m = some k) (h2 : (aRow A s)[k]? = some r) : kf_find A s m = some r := by
  unfold kf_find
  rw [h]
  exact h2
/-- the cases of a step that can be done -/
theorem done_cases {A : qkA} {T M : Nat} {f : Nat → Int32} {d : qkDone} {P : Prop} (hi : qkI T M A) (hf : fOk f) (hd : (kf_done A f).1 = some d)
    (k0 : ∀ s, s < 6 → f 1 = nI s → f 0 = 0 → kf_fits (s / 2) (kf_cell4 (f 2) (f 3) (f 4) (f 5)) = true → kf_room A s (f 2) = true → d = (s, none, some (kf_mark A s (f 2), kf_keep (s / 2) (kf_cell4 (f 2) (f 3) (f 4) (f 5)) 4)) → (kf_done A f).2 = kf_written (kf_add1 A s (f 2) (kf_cell4 (f 2) (f 3) (f 4) (f 5))) s → rBk (aRow A s) (kf_lay (aRow A s) (kf_mark A s (f 2), kf_keep (s / 2) (kf_cell4 (f 2) (f 3) (f 4) (f 5)) 4)) d → P)
    (k1 : ∀ s k j r, s < 6 → f 1 = nI s → f 0 = 1 → j < 4 → (s / 2 = 1 → j < 2) → f 3 = nI j → kf_at (aRow A s) (f 2) = some k → (aRow A s)[k]? = some r → r.1 = f 2 → kf_fit (s / 2) (nI j) (f 4) = true → d = (s, some r, some (r.1, kf_with r.2 (nI j) (kf_kept (s / 2) (nI j) (f 4)))) → (kf_done A f).2 = kf_chg A s k r (nI j) (f 4) → rBk (aRow A s) ((aRow A s).set k (r.1, kf_with r.2 (nI j) (kf_kept (s / 2) (nI j) (f 4)))) d → P)
    (k2 : ∀ s k r, s < 6 → f 1 = nI s → ¬ f 0 = 0 → ¬ f 0 = 1 → kf_at (aRow A s) (f 2) = some k → (aRow A s)[k]? = some r → r.1 = f 2 → d = (s, some r, none) → (kf_done A f).2 = kf_written (sRow A (qkU (aRow A) s ((aRow A s).eraseIdx k))) s → rBk (aRow A s) ((aRow A s).eraseIdx k) d → P) : P := by
  obtain ⟨⟨s, hs, es⟩, hkd⟩ := hf
  obtain ⟨r1, r2, r3, r4⟩ := hi.1 s hs
  have n10 : ¬ (1 : Int32) = 0 := by decide
  have n20 : ¬ (2 : Int32) = 0 := by decide
  have n30 : ¬ (3 : Int32) = 0 := by decide
  by_cases c0 : f 0 = 0
  · by_cases c2 : kf_fits (s / 2) (kf_cell4 (f 2) (f 3) (f 4) (f 5)) = false
    · rw [dn_a hs es c0 (add_v2 hs c2), if_neg n20] at hd
      cases hd
    have c2 := eq_true_of_ne_false c2
    by_cases c3 : kf_room A s (f 2) = false
    · rw [dn_a hs es c0 (add_v3 hs c2 c3), if_neg n30] at hd
      cases hd
    have c3 := eq_true_of_ne_false c3
    have hdn := dn_a hs es c0 (add_v0 hs c2 c3)
    rw [if_pos rfl] at hdn
    dsimp only at hdn
    have hb := bk_add (r := (kf_mark A s (f 2), kf_keep (s / 2) (kf_cell4 (f 2) (f 3) (f 4) (f 5)) 4)) (s := s) r2 (mark_fresh hs hi.1 c3) (room_len c3)
    obtain ⟨k, hk1, hk2⟩ := hb.2.2.1 _ rfl
    have hrw : aRow (kf_written (kf_add1 A s (f 2) (kf_cell4 (f 2) (f 3) (f 4) (f 5))) s) s = kf_lay (aRow A s) (kf_mark A s (f 2), kf_keep (s / 2) (kf_cell4 (f 2) (f 3) (f 4) (f 5)) 4) := qkU_s
    have hfind : kf_find (kf_written (kf_add1 A s (f 2) (kf_cell4 (f 2) (f 3) (f 4) (f 5))) s) s (kf_mark A s (f 2)) = some (kf_mark A s (f 2), kf_keep (s / 2) (kf_cell4 (f 2) (f 3) (f 4) (f 5)) 4) := find_at (k := k) (by rw [hrw]; exact hk1) (by rw [hrw]; exact hk2)
    rw [hdn, hfind] at hd
    injection hd with hd
    subst hd
    exact k0 s hs es c0 c2 c3 rfl (by rw [hdn]) hb
  by_cases c1 : f 0 = 1
  · by_cases z : kf_at (aRow A s) (f 2) = none ∨ (f 3 < 0 ∨ ¬ f 3 < kf_cols (s / 2))
    · rw [dn_c hs es c1 (chg_v1 hs z), if_neg n10] at hd
      cases hd
    rw [not_or] at z
    obtain ⟨z0, z2⟩ := z
    cases hat : kf_at (aRow A s) (f 2) with
    | none => exact absurd hat z0
    | some k =>
      by_cases e3 : ((decide (0 < f 3) || !kf_hasKey (s / 2)) && kf_fit (s / 2) (f 3) (f 4)) = false
      · rw [dn_c hs es c1 (chg_v2 hs hat z2 e3), if_neg n20] at hd
        cases hd
      have e3 := eq_true_of_ne_false e3
      obtain ⟨hk, hkm⟩ := at_some hat
      have hg : (aRow A s)[k]? = some (aRow A s)[k] := List.getElem?_eq_getElem hk
      have hdn := dn_c hs es c1 (chg_v0 hs hat z2 e3 hg)
      rw [if_pos rfl] at hdn
      dsimp only at hdn
      obtain ⟨j, hj, hj2, ej⟩ := col_of z2
      generalize (aRow A s)[k] = r at hkm hg hdn
      have hfind : kf_find A s (f 2) = some r := find_at hat hg
      have hasc : qkAsc ((aRow A s).set k (r.1, kf_with r.2 (f 3) (kf_kept (s / 2) (f 3) (f 4)))) := by
        obtain ⟨e, h1, h2, _⟩ := split_at r2 hg
        rw [set_split hk]
        unfold qkAsc at r2 ⊢
        rw [e, List.pairwise_append, List.pairwise_cons] at r2
        rw [List.pairwise_append, List.pairwise_cons]
        refine ⟨r2.1, ⟨h2, r2.2.1.2⟩, fun a ha b hb => ?_⟩
        rcases List.mem_cons.mp hb with rfl | hb
        · exact h1 a ha
        · exact r2.2.2 a ha b (List.mem_cons_of_mem _ hb)
      have hb := bk_change (q := (r.1, kf_with r.2 (f 3) (kf_kept (s / 2) (f 3) (f 4)))) (s := s) r2 hg rfl r1.1 hasc
      have hrw : aRow (kf_chg A s k r (f 3) (f 4)) s = (aRow A s).set k (r.1, kf_with r.2 (f 3) (kf_kept (s / 2) (f 3) (f 4))) := qkU_s
      obtain ⟨k', hk1, hk2⟩ := hb.2.2.1 _ rfl
      have hfind2 : kf_find (kf_chg A s k r (f 3) (f 4)) s (f 2) = some (r.1, kf_with r.2 (f 3) (kf_kept (s / 2) (f 3) (f 4))) := find_at (k := k') (by rw [hrw, ← hkm]; exact hk1) (by rw [hrw]; exact hk2)
      rw [hdn, hfind, hfind2] at hd
      injection hd with hd
      subst hd
      rw [Bool.and_eq_true] at e3
      rw [ej] at hb e3 hdn
      refine k1 s k j r hs es c1 hj hj2 ej hat hg hkm e3.2 (by rw [ej]) (by rw [hdn]) ?_
      rw [ej]
      exact hb
  · cases hat : kf_at (aRow A s) (f 2) with
    | none =>
      rw [dn_r hs es c0 c1 (rem_v1 hs hat), if_neg n10] at hd
      cases hd
    | some k =>
      obtain ⟨hk, hkm⟩ := at_some hat
      have hg : (aRow A s)[k]? = some (aRow A s)[k] := List.getElem?_eq_getElem hk
      have hdn := dn_r hs es c0 c1 (rem_v0 hs hat)
      rw [if_pos rfl] at hdn
      dsimp only at hdn
      rw [hdn, find_at hat hg] at hd
      injection hd with hd
      subst hd
      exact k2 s k _ hs es c0 c1 hat hg hkm rfl (by rw [hdn]) (bk_remove r2 hg r1.1)
