/-! SQ 15: the entry that serves a seat; a seat served -/
set_option maxRecDepth 100000
theorem any_flt {α : Type} {p q : α → Bool} : ∀ {l : List α}, (l.filter p).any q = l.any (fun a => p a && q a) := by
  intro l
  induction l with
  | nil => rfl
  | cons x l ih =>
    cases hp : p x with
    | false => rw [List.filter_cons_of_neg (by rw [hp]; simp), List.any_cons, ih, hp]; rfl
    | true => rw [List.filter_cons_of_pos hp, List.any_cons, List.any_cons, ih, hp]; rfl
theorem km_canServe {A : qkA} {S : qm_S} {e i src : Nat} {E : qkEnt} {fresh : Int32} {K : Int32 → Prop} (hT : cT A S) (hD : cD A S) (hi : iD A) (hs : (aSeat A)[i]? = some (nI src)) (h6 : src < 6) (he6 : e < 6) (hE : rEnt (aWr A) (aMsg A) S e E) (hE6 : E.1 < 6) (hc4 : E.2.1.length ≤ 4) (hfr : S.1 53 = fresh) (hk : K (b2 (kf_serves A src (kf_sent A (nI i) src) fresh E))) : T_X8_canServe (nI e) (nI i) S K := by
  have hil := (List.getElem?_eq_some_iff.mp hs).1
  have h3 := hi.1.1
  have h4 := hi.2.2.1.1
  have h23 := hD.1.2 i _ hs
  obtain ⟨b0, b1, _, _, _, _, _, b7, b8⟩ := hE
  unfold T_X8_canServe
  rw [nI_clamp (n := e) (by omega), nI_clamp (n := i) (by omega), b0, h23, b1, hfr, hT.2.2.1, b7]
  refine ⟨pk_in e 6 he6, pk_in i 3 (by omega), ⟨fun _ => trivial, fun _ => pk_in e 6 he6⟩, ?_⟩
  have hsrc : (nI E.1 = nI src) ↔ E.1 = src := nI_eq (by omega) (by omega)
  have hini : (if nI E.1 = nI src then if fresh < aQ A 15 - E.2.2.2.1 then (0 : Int32) else 1 else 0) = b2 (decide (E.1 = src ∧ ¬ fresh < aQ A 15 - E.2.2.2.1)) := by
    by_cases c1 : E.1 = src
    · rw [if_pos (hsrc.mpr c1)]
      by_cases c2 : fresh < aQ A 15 - E.2.2.2.1
      · rw [if_pos c2, b2_f (decide_eq_false (fun z => z.2 c2))]
      · rw [if_neg c2, b2_t (decide_eq_true ⟨c1, c2⟩)]
    · rw [if_neg (fun z => c1 (hsrc.mp z)), b2_f (decide_eq_false (fun z => c1 z.1))]
  rw [hini]
  unfold kf_serves at hk
  generalize decide (E.1 = src ∧ ¬ fresh < aQ A 15 - E.2.2.2.1) = B at hk
  generalize hF : (fun cd : qkC => (kf_sent A (nI i) src).any (fun b => kf_follow cd b)) = F at hk
  intro X hX
  rw [m_4]
  refine lp (P := fun n (x : Int32) => X x (nI (4 * e + n))) E.2.1.length (fun n x => x = b2 (B && (E.2.1.take n).all F)) (fun n x hn hI ih => ?_) 0 _ (Nat.zero_le _) (by simp)
  subst hI
  refine hX _ _ ⟨pk_in e 6 he6, ?_⟩
  rw [m_4, nI_add]
  refine pk_le (4 * e + E.2.1.length) (4 * e + n) (fun z => ?_) (fun z => ?_)
  · obtain rfl : n = E.2.1.length := by omega
    rw [List.take_length]
    exact ⟨b2_z, hk⟩
  · have hz : n < E.2.1.length := by omega
    have hg : E.2.1[n]? = some E.2.1[n] := List.getElem?_eq_getElem hz
    obtain ⟨d1', d2, d3⟩ := b8 n _ hg
    have ih := ih hz
    rw [take_s hz] at ih
    generalize E.2.1[n] = cd at hg d1' d2 d3 ih
    rw [nI_clamp (n := 4 * e + n) (by omega), d1', d2, d3]
    have out : ∀ r, r = F cd → ∀ (x : Int32), x = b2 (B && (E.2.1.take n).all F && r) → X x (nI (4 * e + n) + 1) := by
      intro r hr x hx
      rw [nI_1]
      refine ih x ?_
      rw [hx, hr, List.all_append]
      simp [Bool.and_assoc]
    generalize hB' : (B && (E.2.1.take n).all F) = B' at out
    clear ih hX
    intro Y hY
    have hFcd : F cd = (aCond A).any (fun c => kf_ps i src c && kf_follow cd c) := by
      rw [← hF]
      show (kf_sent A (nI i) src).any (fun b => kf_follow cd b) = _
      rw [sent_eq, any_flt]
    refine lp (P := fun w (y : Int32) => Y y (nI w)) (aCond A).length (fun w y => y = b2 (((aCond A).take w).any (fun c => kf_ps i src c && kf_follow cd c))) (fun w y hw hI ih => ?_) 0 0 (Nat.zero_le _) rfl
    subst hI
    refine hY _ _ ?_
    rw [hD.2.2.1.1]
    refine pk_le _ w (fun z' => ?_) (fun z' => ?_)
    · obtain rfl : w = (aCond A).length := by omega
      rw [List.take_length, ← hFcd]
      refine bz (fun q => out _ rfl _ (by rw [q]; rfl)) (fun q => bz (fun q' => out _ rfl _ (by rw [q, q']; rfl)) (fun q' => out _ rfl _ (by rw [q, q']; rfl)))
    · have hgw : (aCond A)[w]? = some (aCond A)[w] := List.getElem?_eq_getElem z'
      obtain ⟨ee, pp⟩ := fm_sent hD hi hgw hs h6
      obtain ⟨c0, c1, c2, c3⟩ := hD.2.2.1.2 w _ hgw
      have ih := ih z'
      rw [take_s z'] at ih
      generalize (aCond A)[w] = c at hgw ee c0 c1 c2 c3 ih
      have st : ∀ r, r = (kf_ps i src c && kf_follow cd c) → Y (b2 (((aCond A).take w).any (fun c => kf_ps i src c && kf_follow cd c) || r)) (nI w + 1) := by
        intro r hr
        rw [nI_1]
        refine ih _ ?_
        rw [hr, List.any_append]
        simp
      generalize hB2 : ((aCond A).take w).any (fun c => kf_ps i src c && kf_follow cd c) = B2 at st
      have hps : (decide (c.1 = nI i) && kf_can (src / 2) c.2.2.1 c.2.1) = kf_ps i src c := rfl
      rw [ee, hps, nI_clamp (n := w) (by omega), c1, c2, c3]
      have e1 : (if b2 (kf_ps i src c) = 0 then (0 : Int32) else if c.2.1 = cd.2.1 then 1 else 0) = b2 (kf_ps i src c && decide (cd.2.1 = c.2.1)) := by
        cases kf_ps i src c with
        | false => rfl
        | true =>
          by_cases q : c.2.1 = cd.2.1
          · rw [if_pos q, decide_eq_true q.symm]; rfl
          · rw [if_neg q, decide_eq_false (fun z => q z.symm)]; rfl
      rw [e1, fm_follows]
      refine ⟨pp, ⟨fun _ => trivial, fun _ => ⟨pk_in w 4 (by omega), ik 24 (by omega)⟩⟩, bn (fun q => ?_) (fun q => bz (fun q' => ?_) (fun q' => ⟨ik 24 (by omega), ik 24 (by omega), pk_in w 4 (by omega), pk_in w 4 (by omega), bz (fun q'' => ?_) (fun q'' => ?_)⟩))⟩
      · have := st _ rfl
        rw [q, Bool.true_or] at this
        exact this
      · have := st false (by
          unfold kf_follow
          rw [← Bool.and_assoc, q', Bool.false_and])
        rw [q] at this
        exact this
      · have := st false (by
          unfold kf_follow
          rw [← Bool.and_assoc, q', Bool.true_and, q''])
        rw [q] at this
        exact this
      · have := st true (by
          unfold kf_follow
          rw [← Bool.and_assoc, q', Bool.true_and, q''])
        rw [q] at this
        exact this
theorem km_entryFor {A : qkA} {S : qm_S} {i src : Nat} {fresh : Int32} {K : Int32 → Prop} (hT : cT A S) (hD : cD A S) (hE : cE A S) (hi : iD A) (hiE : iE A) (hs : (aSeat A)[i]? = some (nI src)) (h6 : src < 6) (hfr : S.1 53 = fresh) (hk : K (kf_on (kf_entry A src (kf_sent A (nI i) src) fresh))) : T_X8_entryFor (nI i) S K := by
  have hl6 := hiE.1
  unfold kf_entry at hk
  unfold T_X8_entryFor
  intro X hX
  refine lp (P := fun n (x : Int32) => X x (nI n)) (aCache A).length (fun n x => x = kf_on (kf_last (kf_serves A src (kf_sent A (nI i) src) fresh) (aCache A) n)) (fun n x hn hI ih => ?_) 0 (-1) (Nat.zero_le _) rfl
  subst hI
  refine hX _ _ ?_
  rw [hE.1]
  refine pk_le _ n (fun z => ?_) (fun z => ?_)
  · obtain rfl : n = (aCache A).length := by omega
    exact hk
  · have hg : (aCache A)[n]? = some (aCache A)[n] := List.getElem?_eq_getElem z
    obtain ⟨hs6, hcl, _⟩ := hiE.2 _ (List.getElem_mem z)
    have hl : kf_last (kf_serves A src (kf_sent A (nI i) src) fresh) (aCache A) (n + 1) = if kf_serves A src (kf_sent A (nI i) src) fresh (aCache A)[n] = true then some n else kf_last (kf_serves A src (kf_sent A (nI i) src) fresh) (aCache A) n := by
      show (if ((aCache A)[n]?.map _) = some true then _ else _) = _
      rw [hg]
      simp
    have ih := ih z
    rw [hl] at ih
    refine km_canServe hT hD hi hs h6 (by omega) (hE.2 n _ hg) hs6 hcl hfr ?_
    rw [nI_1]
    refine bz (fun q => ih _ ?_) (fun q => ih _ ?_)
    · rw [if_neg (by rw [q]; decide)]
    · rw [if_pos q]
      rfl
theorem km_serves {A : qkA} {S : qm_S} {e i : Nat} {E : qkEnt} {K : qm_S → Prop} (hT : cT A S) (hi3 : i < 3) (he6 : e < 6) (hE : rEnt (aWr A) (aMsg A) S e E) (hr12 : E.2.2.1.length ≤ 12) (hk : ∀ S' : qm_S, S'.1 = S.1 → (∀ k, k ≠ 57 → k ≠ 58 → k ≠ 59 → k ≠ 60 → k ≠ 61 → S'.2 k = S.2 k) → (∀ j, j ≠ i → S'.2 57 j = S.2 57 j ∧ S'.2 60 j = S.2 60 j ∧ S'.2 61 j = S.2 61 j) → (∀ q, (q < 12 * i ∨ 12 * i + 12 ≤ q) → S'.2 58 q = S.2 58 q ∧ ∀ c, c < 4 → S'.2 59 (4 * q + c) = S.2 59 (4 * q + c)) → rSeat S' i E.2.2.1 → S'.2 60 i = S.2 42 e → S'.2 61 i = (if S.2 43 e = -1 then S.1 7 else S.2 43 e) → K S') : T_X8_serves (nI e) (nI i) S K := by
  obtain ⟨_, _, _, _, _, b5, b6, _, _⟩ := hE
  unfold T_X8_serves
  rw [nI_clamp (n := e) (by omega), nI_clamp (n := i) (by omega), b5]
  refine ⟨pk_in e 6 he6, pk_in i 3 hi3, ?_⟩
  intro X hX
  refine lp (P := fun n st => X (nI n) st) 12 (fun n st => st = (S.1, qm_uA (qm_uA S.2 57 (upd (S.2 57) i (nI E.2.2.1.length))) 58 (kcq (12 * e) (12 * i) n (S.2 46) (S.2 58)))) (fun n st hn hI ih => ?_) 0 _ (by omega) ?_
  rotate_left
  · rw [kcq_0]
    exact Prod.ext rfl (uA_id (f := qm_uA S.2 57 (upd (S.2 57) i (nI E.2.2.1.length))) (k := 58)).symm
  subst hI
  refine hX _ _ (pk_le 12 n (fun z => ?_) (fun z => ?_))
  rotate_left
  · have ih' := ih z _ rfl
    rw [← kcq_s (n := n)] at ih'
    rw [m_12, m_12, nI_add, nI_add, nI_1, nI_clamp (n := 12 * e + n) (by omega), nI_clamp (n := 12 * i + n) (by omega)]
    refine ⟨ik 72 (by omega), ik 36 (by omega), ?_⟩
    dsimp only
    rw [uA_s, uA_2, uA_n (show (46 : Nat) ≠ 58 by decide), uA_n (show (46 : Nat) ≠ 57 by decide)]
    exact ih'
  obtain rfl : n = 12 := by omega
  clear ih hX
  intro Y hY
  refine lp (P := fun n st => Y (nI n) st) 48 (fun n st => st = (S.1, qm_uA (qm_uA (qm_uA S.2 57 (upd (S.2 57) i (nI E.2.2.1.length))) 58 (kcq (12 * e) (12 * i) 12 (S.2 46) (S.2 58))) 59 (kcq (48 * e) (48 * i) n (S.2 47) (S.2 59)))) (fun n st hn hI ih => ?_) 0 _ (by omega) ?_
  rotate_left
  · rw [kcq_0]
    exact Prod.ext rfl (uA_id (f := qm_uA (qm_uA S.2 57 (upd (S.2 57) i (nI E.2.2.1.length))) 58 (kcq (12 * e) (12 * i) 12 (S.2 46) (S.2 58))) (k := 59)).symm
  subst hI
  refine hY _ _ (pk_le 48 n (fun z => ?_) (fun z => ?_))
  rotate_left
  · have ih' := ih z _ rfl
    rw [← kcq_s (n := n)] at ih'
    rw [m_48, m_48, nI_add, nI_add, nI_1, nI_clamp (n := 48 * e + n) (by omega), nI_clamp (n := 48 * i + n) (by omega)]
    refine ⟨ik 288 (by omega), ik 144 (by omega), ?_⟩
    dsimp only
    rw [uA_s, uA_2, uA_n (show (47 : Nat) ≠ 59 by decide), uA_n (show (47 : Nat) ≠ 58 by decide), uA_n (show (47 : Nat) ≠ 57 by decide)]
    exact ih'
  obtain rfl : n = 48 := by omega
  clear ih hY
  refine ⟨pk_in e 6 he6, pk_in i 3 hi3, pk_in e 6 he6, pk_in i 3 hi3, ?_⟩
  refine hk _ rfl (fun k a b c d e' => ?_) (fun j hj => ⟨?_, ?_, ?_⟩) (fun q hq => ⟨?_, fun c hc => ?_⟩) ⟨?_, hr12, ?_⟩ ?_ ?_
  · dsimp only
    rw [uA_n e', uA_n d, uA_n c, uA_n b, uA_n a]
  · exact upd_n hj
  · exact upd_n hj
  · exact upd_n hj
  · exact kcq_out (by omega)
  · exact kcq_out (by omega)
  · exact upd_s
  · refine b6.cp (fun k hk => kcq_in (by omega)) (fun k hk c hc => ?_)
    have e1 : 4 * (12 * i + k) + c = 48 * i + (4 * k + c) := by omega
    have e2 : 4 * (12 * e + k) + c = 48 * e + (4 * k + c) := by omega
    rw [e1, e2]
    exact kcq_in (by omega)
  · exact upd_s
  · exact upd_s
