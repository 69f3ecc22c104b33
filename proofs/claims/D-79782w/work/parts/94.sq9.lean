/-! SQ 9: what holds all along, through attempts; attempts and requests on both sides -/
set_option maxRecDepth 100000
theorem qkI.go {T M T' t : Nat} {A : qkA} (h : qkI T M A) (ht : t ≤ T') (hT : T ≤ T') : qkI T' M (kf_goTo A (nI t)) := by
  obtain ⟨hR, hL, hF, hD, hB, ⟨_, m, hm, e, hw, hmsg, hent⟩, hE⟩ := h
  refine ⟨hR, hL, hF, hD, hB, ⟨⟨t, ht, rfl⟩, m, hm, e, hw, fun x hx => ?_, fun E hE' => ?_, fun x hx => hent.2 x (List.mem_filter.mp hx).1⟩, Nat.le_trans ?_ hE.1, fun E hE' => ?_⟩
  · obtain ⟨d, hd, e⟩ := hmsg x (List.mem_filter.mp hx).1
    exact ⟨d, by omega, e⟩
  · rw [goTo_cache] at hE'
    exact hent.1 E (List.mem_filter.mp hE').1
  · rw [goTo_cache]
    exact List.length_filter_le _ _
  · rw [goTo_cache] at hE'
    exact hE.2 E (List.mem_filter.mp hE').1
theorem ln_o {A : qkA} {l k j i : Nat} {x : Int32} (h : i ≠ k) : aLn (kf_ln A l k x) j i = aLn A j i := by
  show qkU (aLn A) l (upd (aLn A l) k x) j i = _
  by_cases e : j = l
  · subst e
    rw [qkU_s, upd_n h]
  · rw [qkU_n e]
theorem qkI.ln {T M l k : Nat} {x : Int32} {A : qkA} (h : qkI T M A) (hk : k = 6 ∨ k = 8 ∨ k = 9) : qkI T M (kf_ln A l k x) := by
  obtain ⟨hR, hL, hF, hD, hB, hT, hE⟩ := h
  refine ⟨hR, fun j hj => ?_, hF, hD, hB, hT, hE⟩
  rw [ln_o (by omega), ln_o (by omega), ln_o (by omega), ln_o (by omega)]
  exact hL j hj
theorem d_10 {t : Nat} (h : t < 2 ^ 31) : nI t / (10 : Int32) = nI (t / 10) := pk_div (d := 10) h (by decide) (by decide)
theorem r_10 {t : Nat} (h : t < 2 ^ 31) : nI t - nI t / (10 : Int32) * (10 : Int32) = nI (t % 10) := pk_rem (d := 10) h (by decide) (by decide)
theorem wait_t {t : Nat} (h : t < 2 ^ 31) : (nI t / (10 : Int32) + 1) * 10 = nI ((t / 10 + 1) * 10) := by
  rw [d_10 h, nI_1]
  exact pk_mul _ 10
theorem iT.now {T M : Nat} {A : qkA} (h : iT T M A) : ∃ t, t ≤ T ∧ aQ A 15 = nI t := h.1
theorem qkI.wait {T M l : Nat} {A : qkA} (h : qkI T M A) (hT : T ≤ 2 ^ 20) : qkI (T + 10) M (kf_wait A l) := by
  obtain ⟨t, ht, e⟩ := h.2.2.2.2.2.1.now
  unfold kf_wait
  by_cases c : kf_full A l = true
  · rw [if_pos c, e, wait_t (by omega)]
    exact h.go (by omega) (by omega)
  · rw [if_neg c]
    obtain ⟨hR, hL, hF, hD, hB, ⟨⟨t, ht, e⟩, m, hm, e', hw, hmsg, hent⟩, hE⟩ := h
    exact ⟨hR, hL, hF, hD, hB, ⟨⟨t, by omega, e⟩, m, hm, e', hw, fun x hx => by obtain ⟨d, hd, e⟩ := hmsg x hx; exact ⟨d, by omega, e⟩, hent⟩, hE⟩
theorem qkI.le {T T' M M' : Nat} {A : qkA} (h : qkI T M A) (hT : T ≤ T') (hM : M ≤ M') : qkI T' M' A := by
  obtain ⟨hR, hL, hF, hD, hB, ⟨⟨t, ht, e⟩, m, hm, e', hw, hmsg, hent⟩, hE⟩ := h
  exact ⟨hR, hL, hF, hD, hB, ⟨⟨t, by omega, e⟩, m, by omega, e', hw, fun x hx => by obtain ⟨d, hd, e⟩ := hmsg x hx; exact ⟨d, by omega, e⟩, hent⟩, hE⟩
theorem qkI.run {T M l : Nat} {A : qkA} (h : qkI T M A) (hl : l < 3) : qkI (T + 30) M (kf_run A l) := by
  obtain ⟨t, ht, e⟩ := h.2.2.2.2.2.1.now
  obtain ⟨d, hd, e'⟩ := (h.2.1 l hl).1
  unfold kf_run kf_use
  rw [e, e', nI_add]
  exact ((h.ln (Or.inr (Or.inr rfl))).ln (Or.inr (Or.inl rfl))).go (by omega) (by omega)
theorem qkI.attempt {T M l : Nat} {b d : Int32} {f : Nat → Int32} {A : qkA} (h : qkI T M A) (hl : l < 3) (hT : T ≤ 2 ^ 20) : qkI (T + 40) M (kf_attempt A l b d f).2.1 := by
  unfold kf_attempt
  have hw := h.wait (l := l) hT
  by_cases c1 : kf_late (kf_wait A l) b d = true
  · rw [if_pos c1]
    exact hw.le (by omega) (Nat.le_refl _)
  rw [if_neg c1]
  by_cases c2 : aLn A l 6 ≤ 0
  · rw [if_pos c2]
    exact hw.run hl
  · rw [if_neg c2]
    exact (hw.run hl).ln (Or.inl rfl)
theorem qkI.req {M l : Nat} {b d : Int32} (hl : l < 3) : ∀ (n T : Nat) (A : qkA) (f : Nat → Int32), qkI T M A → T + 40 * n ≤ 2 ^ 20 → qkI (T + 40 * n) M (kf_req l b d n A f).2.1 := by
  intro n
  induction n with
  | zero => intro T A f h _; exact h
  | succ n ih =>
    intro T A f h hT
    have ha := h.attempt (b := b) (d := d) (f := f) hl (by omega)
    show qkI _ M (if (kf_attempt A l b d f).1 = 1 then kf_req l b d n (kf_attempt A l b d f).2.1 (kf_attempt A l b d f).2.2 else kf_attempt A l b d f).2.1
    by_cases c : (kf_attempt A l b d f).1 = 1
    · rw [if_pos c]
      have := ih (T + 40) _ (kf_attempt A l b d f).2.2 ha (by omega)
      exact this.le (by omega) (Nat.le_refl _)
    · rw [if_neg c]
      exact ha.le (by omega) (Nat.le_refl _)
/-! the coupling but for the latest answer -/
def qkB (A : qkA) (S : qm_S) : Prop := cT A S ∧ cL A S ∧ cR A S ∧ cS A S ∧ cD A S ∧ cE A S ∧ cB A S
theorem cC.b {A : qkA} {v : qkAns} {S : qm_S} (h : cC A v S) : qkB A S := ⟨h.1, h.2.1, h.2.2.1, h.2.2.2.1, h.2.2.2.2.1, h.2.2.2.2.2.1, h.2.2.2.2.2.2.1⟩
theorem qkB.c {A : qkA} {v : qkAns} {S : qm_S} (h : qkB A S) (hA : cA v S) : cC A v S := ⟨h.1, h.2.1, h.2.2.1, h.2.2.2.1, h.2.2.2.2.1, h.2.2.2.2.2.1, h.2.2.2.2.2.2, hA⟩
/-- the coupling reads no field of a question -/
theorem qkB.fr {A : qkA} {S S' : qm_S} (h : qkB A S) (h1 : ∀ k, (6 ≤ k ∧ k ≤ 39) ∨ k = 85 → S'.1 k = S.1 k) (h2 : ∀ k, (1 ≤ k ∧ k ≤ 51) ∨ (86 ≤ k ∧ k ≤ 91) → S'.2 k = S.2 k) : qkB A S' := by
  obtain ⟨hT, hL, hR, hS, hD, hE, hB⟩ := h
  exact ⟨hT.fr (h1 6 (by omega)) (h1 7 (by omega)) (h1 8 (by omega)) (h1 37 (by omega)) (h1 38 (by omega)), hL.fr fun k _ _ => h2 k (by omega), hR.fr (h2 1 (by omega)) (h2 2 (by omega)) (h2 3 (by omega)), hS.fr (h2 4 (by omega)) (h2 5 (by omega)) (h2 20 (by omega)) (h2 21 (by omega)), hD.fr (fun k _ _ => h1 k (by omega)) (fun k _ _ => h2 k (by omega)), hE.fr (h1 39 (by omega)) (fun k _ _ => h2 k (by omega)), hB.fr (h1 85 (by omega)) (fun k _ _ => h2 k (by omega))⟩
/-- the time goes on, told of the coupling but for the answer -/
theorem km_goB {A : qkA} {S : qm_S} {T M : Nat} {t a : Int32} {K : qm_S → Prop} (h : qkB A S) (hi : iE A) (hit : iT T M A) (hT : T ≤ 2 ^ 20) (he : aQ A 15 + a = t) (hk : ∀ S' : qm_S, (∀ k, k ≠ 8 → k ≠ 39 → S'.1 k = S.1 k) → (∀ k, k < 40 ∨ 51 < k → S'.2 k = S.2 k) → qkB (kf_goTo A t) S' → K S') : T_X8_goes a S K := by
  obtain ⟨hT', hL, hR, hS, hD, hE, hB⟩ := h
  unfold T_X8_goes
  refine km_drops (A := A) (t := t) ?_ (fun l hl => (hL l hl).2.2.2.2.1) (hE.fr (un1 (show (39 : Nat) ≠ 8 by decide)) (fun k _ _ => rfl)) hi (hit.due hT) (fun S' f1 f2 hc => ?_)
  · show upd S.1 8 (S.1 8 + a) 8 = t
    rw [upd_s, hT'.2.2.1, he]
  have e1 : ∀ k, k ≠ 8 → k ≠ 39 → S'.1 k = S.1 k := fun k a b => (f1 k b).trans (upd_n a)
  have e8 : S'.1 8 = t := by
    rw [f1 8 (by decide)]
    show upd S.1 8 (S.1 8 + a) 8 = t
    rw [upd_s, hT'.2.2.1, he]
  exact hk S' e1 f2 ⟨⟨(e1 6 (by decide) (by decide)).trans hT'.1, (e1 7 (by decide) (by decide)).trans hT'.2.1, e8.trans rfl, (e1 37 (by decide) (by decide)).trans hT'.2.2.2.1, (e1 38 (by decide) (by decide)).trans hT'.2.2.2.2⟩, hL.fr fun k _ _ => f2 k (by omega), hR.fr (f2 1 (by omega)) (f2 2 (by omega)) (f2 3 (by omega)), hS.fr (f2 4 (by omega)) (f2 5 (by omega)) (f2 20 (by omega)) (f2 21 (by omega)), hD.fr (fun k _ _ => e1 k (by omega) (by omega)) (fun k _ _ => f2 k (by omega)), hc, hB.fr (e1 85 (by decide) (by decide)) (fun k _ _ => f2 k (by omega))⟩
/-- fields that an attempt may change: scalars but 8, 39, 55, 80, 81; arrays but 14, 16, 17, 40..51 -/
def tF (S S' : qm_S) : Prop := (∀ k, k ≠ 8 → k ≠ 39 → k ≠ 55 → k ≠ 80 → k ≠ 81 → S'.1 k = S.1 k) ∧ ∀ k, k ≠ 14 → k ≠ 16 → k ≠ 17 → (k < 40 ∨ 51 < k) → S'.2 k = S.2 k
theorem tF.tr {S S' S'' : qm_S} (h : tF S S') (k : tF S' S'') : tF S S'' := ⟨fun i a b c d e => (k.1 i a b c d e).trans (h.1 i a b c d e), fun i a b c d => (k.2 i a b c d).trans (h.2 i a b c d)⟩
theorem km_tries {A : qkA} {S : qm_S} {T M l q : Nat} {b d : Int32} {f : Nat → Int32} {K : Int32 → qm_S → Prop} (hl : l < 3) (h : qkB A S) (hi : qkI T M A) (hTM : T + 40 ≤ 2 ^ 20) (hq : (q = 0 ∧ d = -1) ∨ (q = 1 ∧ ¬ d = -1 ∧ S.1 52 = b ∧ S.1 54 = d))
    (hk : ∀ S' : qm_S, qkB (kf_attempt A l b d f).2.1 S' → tF S S' → (q = 0 → S'.1 55 = S.1 55 ∧ S'.1 80 = S.1 80 ∧ S'.1 81 = S.1 81) → (q = 1 → ∃ x y, (kf_attempt A l b d f).2.2 4 = f 4 + x ∧ (kf_attempt A l b d f).2.2 5 = f 5 + y ∧ S'.1 80 = S.1 80 + x ∧ S'.1 55 = S.1 55 + x ∧ S'.1 81 = S.1 81 + y) → K (if (kf_attempt A l b d f).1 = 0 then 2 else if (kf_attempt A l b d f).1 = 1 then 1 else 0) S') : T_X8_tries (nI l) (nI q) S K := by
  obtain ⟨t, ht, e15⟩ := hi.2.2.2.2.2.1.now
  have hLl := h.2.1 l hl
  have h8 : S.1 8 = nI t := h.1.2.2.1.trans e15
  have hwq : ∀ i, i ≠ 0 → (0 : Nat) ≠ i := fun i z => Ne.symm z
  unfold T_X8_tries
  rw [nI_clamp (n := l) (by omega)]
  refine ⟨pk_in l 3 hl, ?_⟩
  intro J hJ
  -- behind the wait
  have wt : ∀ S1 : qm_S, qkB (kf_wait A l) S1 → (∀ k, k ≠ 8 → k ≠ 39 → S1.1 k = S.1 k) → (∀ k, k < 40 ∨ 51 < k → S1.2 k = S.2 k) → J S1 := by
    intro S1 hB1 g1 g2
    have hi1 := hi.wait (l := l) (by omega)
    obtain ⟨t1, ht1, e1⟩ := hi1.2.2.2.2.2.1.now
    have hL1 := hB1.2.1 l hl
    have s8 : S1.1 8 = aQ (kf_wait A l) 15 := hB1.1.2.2.1
    refine hJ S1 ?_
    -- the attempt itself
    have at' : kf_late (kf_wait A l) b d = false → (((¬ (S1.2 16 l) = ((S1.1 8) / 10) → True) ∧ ((S1.2 16 l) = ((S1.1 8) / 10) → vp_in (nI l) (qm_len 17))) ∧ vp_in (nI l) (qm_len 17) ∧ vp_in (nI l) (qm_len 9) ∧ T_X8_goes (S1.2 9 l) ((S1.1, qm_uA (qm_uA S1.2 17 (upd (S1.2 17) l ((if (S1.2 16 l) = ((S1.1 8) / 10) then (S1.2 17 l) + 1 else (1 : Int32))))) 16 (upd (S1.2 16) l ((S1.1 8) / 10)))) (fun S15 => ∀ J19 : qm_S → Prop, (∀ (S20 : qm_S), (vp_in (nI l) (qm_len 14) ∧ ((S20.2 14 l) ≤ 0 → K 2 S20) ∧ (¬ (S20.2 14 l) ≤ 0 → K 1 ((S20.1, qm_uA S20.2 14 (upd (S20.2 14) l ((S20.2 14 l) - 1)))))) → J19 S20) → (nI q = 0 → J19 S15) ∧ (¬ nI q = 0 → vp_in (nI l) (qm_len 18) ∧ T_X8_pays (S15.2 18 l) ((upd S15.1 81 ((S15.1 81) + 1), S15.2)) (fun S18 => J19 S18)))) := by
      intro hlate
      refine ⟨⟨fun _ => trivial, fun _ => pk_in l 3 hl⟩, pk_in l 3 hl, pk_in l 3 hl, ?_⟩
      rw [hL1.1, hL1.2.2.2.2.2.2.2.1, hL1.2.2.2.2.2.2.2.2.1, s8]
      have hB2 : qkB (kf_use (kf_wait A l) l) (S1.1, qm_uA (qm_uA S1.2 17 (upd (S1.2 17) l (if aLn (kf_wait A l) l 8 = aQ (kf_wait A l) 15 / 10 then aLn (kf_wait A l) l 9 + 1 else 1))) 16 (upd (S1.2 16) l (aQ (kf_wait A l) 15 / 10))) := by
        obtain ⟨bT, bL, bR, bS, bD, bE, bB⟩ := hB1
        have := (bL.put 9 (by decide) (x := (if aLn (kf_wait A l) l 8 = aQ (kf_wait A l) 15 / 10 then aLn (kf_wait A l) l 9 + 1 else 1)) (l := l)).put 8 (by decide) (x := aQ (kf_wait A l) 15 / 10) (l := l)
        exact ⟨bT, this, bR, bS, bD, bE, bB⟩
      have hi2 : qkI (T + 10) M (kf_use (kf_wait A l) l) := (hi1.ln (Or.inr (Or.inr rfl))).ln (Or.inr (Or.inl rfl))
      refine km_goB (A := kf_use (kf_wait A l) l) (t := aQ (kf_wait A l) 15 + aLn (kf_wait A l) l 1) hB2 hi2.2.2.2.2.2.2 hi2.2.2.2.2.2.1 (by omega) rfl (fun S2 f1 f2 hB3 => ?_)
      intro J2 hJ2
      have hrun : kf_goTo (kf_use (kf_wait A l) l) (aQ (kf_wait A l) 15 + aLn (kf_wait A l) l 1) = kf_run (kf_wait A l) l := rfl
      rw [hrun] at hB3
      have f14 : ∀ k, k ≠ 14 → k ≠ 16 → k ≠ 17 → (k < 40 ∨ 51 < k) → S2.2 k = S.2 k := fun k a b c d => by
        rw [f2 k d]
        show qm_uA (qm_uA S1.2 17 _) 16 _ k = _
        rw [uA_n b, uA_n c, g2 k d]
      have fin : ∀ S3 : qm_S, S3.2 = S2.2 → (∀ k, k ≠ 55 → k ≠ 80 → k ≠ 81 → S3.1 k = S2.1 k) → (q = 0 → S3.1 55 = S.1 55 ∧ S3.1 80 = S.1 80 ∧ S3.1 81 = S.1 81) → (q = 1 → S3.1 80 = S.1 80 + kf_fee l ∧ S3.1 55 = S.1 55 + kf_fee l ∧ S3.1 81 = S.1 81 + 1) → J2 S3 := by
        intro S3 e2 e1' c0 c1
        have hB4 : qkB (kf_run (kf_wait A l) l) S3 := hB3.fr (fun k hk => e1' k (by omega) (by omega) (by omega)) (fun k _ => by rw [e2])
        have h6 : aLn (kf_run (kf_wait A l) l) l 6 = aLn A l 6 := by
          show aLn (kf_use (kf_wait A l) l) l 6 = _
          unfold kf_use
          rw [ln_o (by decide), ln_o (by decide), kf_wait_ln]
        have h14 : S3.2 14 l = aLn A l 6 := (hB4.2.1 l hl).2.2.2.2.2.1.trans h6
        have tf : tF S S3 := ⟨fun k a b c d e => by rw [e1' k c d e, f1 k a b]; exact g1 k a b, fun k a b c d => by rw [e2]; exact f14 k a b c d⟩
        have pd : q = 1 → ∃ x y, (kf_paid f l) 4 = f 4 + x ∧ (kf_paid f l) 5 = f 5 + y ∧ S3.1 80 = S.1 80 + x ∧ S3.1 55 = S.1 55 + x ∧ S3.1 81 = S.1 81 + y := fun hq1 => ⟨kf_fee l, 1, upd_s, (upd_n (by decide)).trans upd_s, (c1 hq1).1, (c1 hq1).2.1, (c1 hq1).2.2⟩
        refine hJ2 S3 ?_
        rw [h14]
        refine ⟨pk_in l 3 hl, fun z => ?_, fun z => ?_⟩
        · have ea : kf_attempt A l b d f = (0, kf_run (kf_wait A l) l, kf_paid f l) := by
            unfold kf_attempt
            rw [if_neg (by rw [hlate]; decide), if_pos z]
          rw [ea] at hk
          exact hk S3 hB4 tf c0 pd
        · have ea : kf_attempt A l b d f = (1, kf_ln (kf_run (kf_wait A l) l) l 6 (aLn A l 6 - 1), kf_paid f l) := by
            unfold kf_attempt
            rw [if_neg (by rw [hlate]; decide), if_neg z]
          rw [ea] at hk
          obtain ⟨bT, bL, bR, bS, bD, bE, bB⟩ := hB4
          exact hk _ ⟨bT, bL.put 6 (by decide) (x := aLn A l 6 - 1) (l := l), bR, bS, bD, bE, bB⟩ ⟨tf.1, fun k a b c d => (uA_n a).trans (tf.2 k a b c d)⟩ c0 pd
      have k55 : S2.1 55 = S.1 55 := (f1 55 (by decide) (by decide)).trans (g1 55 (by decide) (by decide))
      have k80 : S2.1 80 = S.1 80 := (f1 80 (by decide) (by decide)).trans (g1 80 (by decide) (by decide))
      have k81 : S2.1 81 = S.1 81 := (f1 81 (by decide) (by decide)).trans (g1 81 (by decide) (by decide))
      refine ⟨fun z => fin S2 rfl (fun _ _ _ _ => rfl) (fun _ => ⟨k55, k80, k81⟩) (fun q1 => ?_), fun z => ⟨pk_in l 3 hl, ?_⟩⟩
      · rw [q1] at z
        exact absurd z (by decide)
      · unfold T_X8_pays
        refine fin _ rfl (fun k a b c => ?_) (fun q0 => ?_) (fun q1 => ⟨?_, ?_, ?_⟩)
        · show upd (upd (upd S2.1 81 _) 80 _) 55 _ k = _
          rw [upd_n a, upd_n b, upd_n c]
        · rw [q0] at z
          exact absurd rfl z
        · show S2.1 80 + S2.2 18 l = _
          rw [k80, (hB3.2.1 l hl).2.2.2.2.2.2.2.2.2.1]
        · show S2.1 55 + S2.2 18 l = _
          rw [k55, (hB3.2.1 l hl).2.2.2.2.2.2.2.2.2.1]
        · show S2.1 81 + 1 = _
          rw [k81]
    rcases hq with ⟨q0, hd⟩ | ⟨q1, hd, h52, h54⟩
    · have hlate : kf_late (kf_wait A l) b d = false := by
        unfold kf_late
        rw [hd]
        exact decide_eq_false (fun z => z.1 rfl)
      refine ⟨fun _ => at' hlate, fun z => ?_⟩
      rw [q0] at z
      exact absurd rfl z
    · refine ⟨fun z => ?_, fun _ => ?_⟩
      · rw [q1] at z
        exact absurd z (by decide)
      · have a52 : S1.1 52 = b := (g1 52 (by decide) (by decide)).trans h52
        have a54 : S1.1 54 = d := (g1 54 (by decide) (by decide)).trans h54
        have hl' : kf_late (kf_wait A l) b d = decide (¬ S1.1 8 - S1.1 52 ≤ S1.1 54) := by
          unfold kf_late
          rw [a52, a54, s8]
          exact decide_eq_decide.mpr ⟨fun z => z.2, fun z => ⟨hd, z⟩⟩
        refine ⟨fun z => at' (by rw [hl']; exact decide_eq_false (fun w => w z)), fun z => ?_⟩
        have ea : kf_attempt A l b d f = (2, kf_wait A l, f) := by
          unfold kf_attempt
          rw [if_pos (by rw [hl']; exact decide_eq_true z)]
        rw [ea] at hk
        refine hk S1 hB1 ⟨fun k a b _ _ _ => g1 k a b, fun k _ _ _ d => g2 k d⟩ (fun q0 => ?_) (fun _ => ⟨0, 0, (Int32.add_zero _).symm, (Int32.add_zero _).symm, ?_, ?_, ?_⟩)
        · exact ⟨g1 55 (by decide) (by decide), g1 80 (by decide) (by decide), g1 81 (by decide) (by decide)⟩
        · rw [g1 80 (by decide) (by decide), Int32.add_zero]
        · rw [g1 55 (by decide) (by decide), Int32.add_zero]
        · rw [g1 81 (by decide) (by decide), Int32.add_zero]
  have nowait : kf_full A l = false → J S := fun z => wt S (by unfold kf_wait; rw [if_neg (by rw [z]; decide)]; exact h) (fun _ _ _ => rfl) (fun _ _ => rfl)
  rw [hLl.2.2.2.2.2.2.2.1, hLl.2.2.2.2.2.2.2.2.1, hLl.2.2.1, h8]
  have hfull : kf_full A l = decide (aLn A l 8 = nI t / 10 ∧ ¬ aLn A l 9 < aLn A l 3) := by
    unfold kf_full
    rw [e15]
  refine ⟨fun z => nowait (by rw [hfull]; exact decide_eq_false (fun w => z w.1)), fun z => ⟨pk_in l 3 hl, pk_in l 3 hl, fun z' => nowait (by rw [hfull]; exact decide_eq_false (fun w => w.2 z')), fun z' => ?_⟩⟩
  have hf : kf_full A l = true := by rw [hfull]; exact decide_eq_true ⟨z, z'⟩
  rw [r_10 (by omega)]
  refine km_goB (A := A) (t := nI ((t / 10 + 1) * 10)) h hi.2.2.2.2.2.2 hi.2.2.2.2.2.1 (by omega) ?_ (fun S1 f1 f2 hB1 => wt S1 ?_ f1 f2)
  · have : (10 : Int32) - nI (t % 10) = nI (10 - t % 10) := pk_sub (a := 10) (by omega)
    rw [this, e15, nI_add]
    congr 1
    omega
  · unfold kf_wait
    rw [if_pos hf, e15, wait_t (by omega)]
    exact hB1
theorem km_requests {A : qkA} {S : qm_S} {T M l : Nat} {b d : Int32} {f : Nat → Int32} {K : Int32 → qm_S → Prop} (hl : l < 3) (h : qkB A S) (hi : qkI T M A) (hTM : T + 120 ≤ 2 ^ 20) (hd : ¬ d = -1) (hb : S.1 52 = b) (hd' : S.1 54 = d)
    (hk : ∀ S' : qm_S, qkB (kf_req l b d 3 A f).2.1 S' → tF S S' → (∃ x y, (kf_req l b d 3 A f).2.2 4 = f 4 + x ∧ (kf_req l b d 3 A f).2.2 5 = f 5 + y ∧ S'.1 80 = S.1 80 + x ∧ S'.1 55 = S.1 55 + x ∧ S'.1 81 = S.1 81 + y) → K (if (kf_req l b d 3 A f).1 = 0 then 1 else 0) S') : T_X8_requests (nI l) S K := by
  unfold T_X8_requests
  intro X hX
  have key : ∀ (n T : Nat) (A : qkA) (S : qm_S) (f : Nat → Int32), n ≤ 3 → qkB A S → qkI T M A → T + 40 * n ≤ 2 ^ 20 → S.1 52 = b → S.1 54 = d → (∀ S' : qm_S, qkB (kf_req l b d n A f).2.1 S' → tF S S' → (∃ x y, (kf_req l b d n A f).2.2 4 = f 4 + x ∧ (kf_req l b d n A f).2.2 5 = f 5 + y ∧ S'.1 80 = S.1 80 + x ∧ S'.1 55 = S.1 55 + x ∧ S'.1 81 = S.1 81 + y) → K (if (kf_req l b d n A f).1 = 0 then 1 else 0) S') → X 1 (nI (3 - n)) S := by
    intro n
    induction n with
    | zero =>
      intro T A S f _ h _ _ _ _ hk
      refine hX _ _ _ ?_
      intro J hJ
      have : J := hJ ⟨fun _ => hk S h ⟨fun _ _ _ _ _ _ => rfl, fun _ _ _ _ _ => rfl⟩ ⟨0, 0, (Int32.add_zero _).symm, (Int32.add_zero _).symm, (Int32.add_zero _).symm, (Int32.add_zero _).symm, (Int32.add_zero _).symm⟩, fun z => absurd z (by decide)⟩
      exact ⟨fun _ => this, fun z => absurd (Int32.le_refl 3) z⟩
    | succ n ih =>
      intro T A S f hn h hi hT h52 h54 hk
      refine hX _ _ _ ?_
      intro J hJ
      refine pk_le 3 (3 - (n + 1)) (fun z => absurd z (by omega)) (fun _ => ⟨fun z => absurd rfl z, fun _ => ?_⟩)
      refine km_tries (q := 1) (b := b) (d := d) (f := f) hl h hi (by omega) (Or.inr ⟨rfl, hd, h52, h54⟩) (fun S1 hB1 tf _ hp => ?_)
      obtain ⟨x, y, p1, p2, p3, p4, p5⟩ := hp rfl
      have hreq : kf_req l b d (n + 1) A f = if (kf_attempt A l b d f).1 = 1 then kf_req l b d n (kf_attempt A l b d f).2.1 (kf_attempt A l b d f).2.2 else kf_attempt A l b d f := rfl
      have e3 : nI (3 - (n + 1)) + 1 = nI (3 - n) := by
        rw [nI_1]
        congr 1
        omega
      rw [e3]
      by_cases c : (kf_attempt A l b d f).1 = 1
      · rw [hreq, if_pos c] at hk
        rw [if_neg (by omega), if_pos c]
        refine ih (T + 40) _ S1 (kf_attempt A l b d f).2.2 (by omega) hB1 (hi.attempt hl (by omega)) (by omega) ((tf.1 52 (by decide) (by decide) (by decide) (by decide) (by decide)).trans h52) ((tf.1 54 (by decide) (by decide) (by decide) (by decide) (by decide)).trans h54) (fun S' hB' tf' hp' => hk S' hB' (tf.tr tf') ?_)
        obtain ⟨x', y', q1, q2, q3, q4, q5⟩ := hp'
        refine ⟨x + x', y + y', ?_, ?_, ?_, ?_, ?_⟩
        · rw [q1, p1, Int32.add_assoc]
        · rw [q2, p2, Int32.add_assoc]
        · rw [q3, p3, Int32.add_assoc]
        · rw [q4, p4, Int32.add_assoc]
        · rw [q5, p5, Int32.add_assoc]
      · rw [hreq, if_neg c] at hk
        have hfin := hk S1 hB1 tf ⟨x, y, p1, p2, p3, p4, p5⟩
        by_cases c0 : (kf_attempt A l b d f).1 = 0
        · rw [if_pos c0] at hfin ⊢
          refine hX _ _ _ ?_
          intro J' hJ'
          have : J' := hJ' ⟨fun z => absurd rfl z, fun _ => hfin⟩
          exact ⟨fun _ => this, fun _ => ⟨fun _ => this, fun z => absurd z (by decide)⟩⟩
        · rw [if_neg c0] at hfin ⊢
          rw [if_neg c]
          refine hX _ _ _ ?_
          intro J' hJ'
          have : J' := hJ' ⟨fun _ => hfin, fun z => absurd z (by decide)⟩
          exact ⟨fun _ => this, fun _ => ⟨fun _ => this, fun z => absurd z (by decide)⟩⟩
  exact key 3 T A S f (Nat.le_refl _) h hi (by omega) hb hd' hk
