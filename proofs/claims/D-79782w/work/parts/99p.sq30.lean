/-! SQ 30: what holds all along is kept by every call -/
set_option maxRecDepth 100000
theorem qkI.wr1 {T M s : Nat} {A : qkA} (h : qkI T M A) (hs : s < 6) (hM : M ≤ 2 ^ 20) : qkI T (M + 1) (kf_wr1 A s) := by
  obtain ⟨hR, hL, hF, hD, hB, ⟨⟨t, ht, et⟩, m, hm, em, hw, hmsg, hent, hmo⟩, hE⟩ := h
  obtain ⟨d, hd, ed⟩ := (hL (s / 2) (by omega)).2.1
  have e1 : aQ A 14 + 1 = nI (m + 1) := by rw [em, nI_1]
  refine ⟨hR, hL, hF, hD, hB, ⟨⟨t, ht, et⟩, m + 1, by omega, ?_, fun q hq => ?_, fun x hx => ?_, fun E hE' => ?_, fun x hx => ?_⟩, hE⟩
  · show aQ A 14 + 1 = _
    exact e1
  · by_cases e : q = s
    · subst e
      have hwq : aWr (kf_wr1 A q) q = aWr A q ++ [aQ A 14 + 1] := qkU_s
      rw [hwq]
      obtain ⟨w1, w2⟩ := hw q hq
      refine ⟨?_, fun w hw' => ?_⟩
      · rw [List.pairwise_append]
        refine ⟨w1, List.pairwise_singleton _ _, fun a ha b hb => ?_⟩
        rw [List.mem_singleton] at hb
        obtain ⟨j, _, hj, ej⟩ := w2 a ha
        rw [hb, e1, ej]
        exact nI_lt (by omega) (by omega)
      · rcases List.mem_append.mp hw' with hw' | hw'
        · obtain ⟨j, j1, j2, ej⟩ := w2 w hw'
          exact ⟨j, j1, by omega, ej⟩
        · rw [List.mem_singleton] at hw'
          exact ⟨m + 1, by omega, Nat.le_refl _, by rw [hw', e1]⟩
    · have hwq : aWr (kf_wr1 A s) q = aWr A q := qkU_n e
      rw [hwq]
      obtain ⟨w1, w2⟩ := hw q hq
      refine ⟨w1, fun w hw' => ?_⟩
      obtain ⟨j, j1, j2, ej⟩ := w2 w hw'
      exact ⟨j, j1, by omega, ej⟩
  · have hx' : x ∈ aMsg A ++ [(nI s, aQ A 15 + aLn A (s / 2) 2, aQ A 14 + 1)] := hx
    rcases List.mem_append.mp hx' with hx' | hx'
    · exact hmsg x hx'
    · rw [List.mem_singleton] at hx'
      subst hx'
      refine ⟨t + d, by omega, ?_⟩
      show aQ A 15 + aLn A (s / 2) 2 = _
      rw [et, ed, nI_add]
  · obtain ⟨j, hj, ej⟩ := hent E hE'
    exact ⟨j, by omega, ej⟩
  · have hx' : x ∈ aMsg A ++ [(nI s, aQ A 15 + aLn A (s / 2) 2, aQ A 14 + 1)] := hx
    rcases List.mem_append.mp hx' with hx' | hx'
    · obtain ⟨j, hj, ej⟩ := hmo x hx'
      exact ⟨j, by omega, ej⟩
    · rw [List.mem_singleton] at hx'
      subst hx'
      exact ⟨m + 1, Nat.le_refl _, e1⟩
theorem qkI.written {T M s : Nat} {A : qkA} (h : qkI T M A) (hs : s < 6) (hM : M ≤ 2 ^ 20) : qkI T (M + 1) (kf_written A s) := by
  obtain ⟨t, ht, et⟩ := h.2.2.2.2.2.1.now
  have e : kf_written A s = kf_goTo (kf_wr1 A s) (aQ A 15) := rfl
  rw [e, et]
  exact (h.wr1 hs hM).go ht (Nat.le_refl _)
/-- rows of one source changed -/
theorem qkI.rows {T M s : Nat} {A : qkA} {rows : List qkRow} (h : qkI T M A) (h1 : qkRs rows) (h2 : qkAsc rows) (h3 : s < 2 → ∃ n, n ≤ 60 ∧ aSr A s 4 = nI n ∧ ∀ r ∈ rows, ∃ m, m < n ∧ r.1 = nI m) : qkI T M (sRow A (qkU (aRow A) s rows)) := by
  obtain ⟨hR, hL, hF, hD, hB, hT, hE⟩ := h
  refine ⟨fun q hq => ?_, hL, hF, hD, hB, hT, hE⟩
  obtain ⟨r1, r2, r3, r4⟩ := hR q hq
  by_cases e : q = s
  · subst e
    have hw : aRow (sRow A (qkU (aRow A) q rows)) q = rows := qkU_s
    rw [hw]
    exact ⟨h1, h2, h3, r4⟩
  · have hw : aRow (sRow A (qkU (aRow A) s rows)) q = aRow A q := qkU_n e
    rw [hw]
    exact ⟨r1, r2, r3, r4⟩
theorem qkI.q13 {T M : Nat} {A : qkA} {x : Int32} (h : qkI T M A) : qkI T M (kf_q A 13 x) := h
theorem lay_split {r : qkRow} : ∀ {rows : List qkRow}, qkAsc rows → (∀ q ∈ rows, ¬ q.1 = r.1) → ∃ p, p ≤ rows.length ∧ kf_lay rows r = rows.take p ++ r :: rows.drop p ∧ (∀ q ∈ rows.take p, q.1 < r.1) ∧ ∀ q ∈ rows.drop p, r.1 < q.1 := by
  intro rows
  induction rows with
  | nil => intro _ _; exact ⟨0, Nat.le_refl _, rfl, fun q hq => by simp at hq, fun q hq => by simp at hq⟩
  | cons x xs ih =>
    intro ha hn
    rw [qkAsc, List.pairwise_cons] at ha
    by_cases c : r.1 ≤ x.1
    · refine ⟨0, Nat.zero_le _, ?_, fun q hq => by simp at hq, fun q hq => ?_⟩
      · unfold kf_lay
        rw [List.takeWhile_cons_of_neg (by simpa using c), List.dropWhile_cons_of_neg (by simpa using c)]
        rfl
      · have hx : r.1 < x.1 := by
          rcases Int32.lt_or_eq_of_le c with h | h
          · exact h
          · exact absurd h.symm (hn x (List.mem_cons_self ..))
        rw [List.drop_zero] at hq
        rcases List.mem_cons.mp hq with rfl | hq
        · exact hx
        · exact Int32.lt_trans hx (ha.1 q hq)
    · obtain ⟨p, hp, e, h1, h2⟩ := ih ha.2 (fun q hq => hn q (List.mem_cons_of_mem _ hq))
      refine ⟨p + 1, by simpa using hp, ?_, fun q hq => ?_, fun q hq => ?_⟩
      · have hc : decide (¬ r.1 ≤ x.1) = true := decide_eq_true c
        unfold kf_lay at e ⊢
        rw [List.takeWhile_cons_of_pos (p := fun q : qkRow => decide (¬ r.1 ≤ q.1)) hc, List.dropWhile_cons_of_pos (p := fun q : qkRow => decide (¬ r.1 ≤ q.1)) hc, List.cons_append, e]
        rfl
      · rw [List.take_succ_cons] at hq
        rcases List.mem_cons.mp hq with rfl | hq
        · exact Int32.not_le.mp c
        · exact h1 q hq
      · rw [List.drop_succ_cons] at hq
        exact h2 q hq
theorem lay_asc {r : qkRow} {rows : List qkRow} (ha : qkAsc rows) (hn : ∀ q ∈ rows, ¬ q.1 = r.1) : qkAsc (kf_lay rows r) ∧ (kf_lay rows r).length = rows.length + 1 ∧ ∀ q ∈ kf_lay rows r, q ∈ rows ∨ q = r := by
  obtain ⟨p, hp, e, h1, h2⟩ := lay_split ha hn
  rw [e]
  refine ⟨?_, ?_, fun q hq => ?_⟩
  · unfold qkAsc at ha ⊢
    rw [← List.take_append_drop p rows, List.pairwise_append] at ha
    rw [List.pairwise_append, List.pairwise_cons]
    refine ⟨ha.1, ⟨h2, ha.2.1⟩, fun a hA b hB => ?_⟩
    rcases List.mem_cons.mp hB with rfl | hB
    · exact h1 a hA
    · exact ha.2.2 a hA b hB
  · rw [List.length_append, List.length_cons, List.length_drop, List.length_take]
    omega
  · rcases List.mem_append.mp hq with hq | hq
    · exact Or.inl (List.mem_of_mem_take hq)
    · rcases List.mem_cons.mp hq with rfl | hq
      · exact Or.inr rfl
      · exact Or.inl (List.mem_of_mem_drop hq)
theorem key_num {v : Int32} (h : kf_key v = true) : kf_num v = true := by
  unfold kf_key at h
  rw [decide_eq_true_eq, Int32.lt_iff_toInt_lt, Int32.lt_iff_toInt_lt] at h
  rw [num_iff]
  have e0 : (0 : Int32).toInt = 0 := by decide
  have e1 : (99 : Int32).toInt = 99 := by decide
  rw [e0, e1] at h
  omega
theorem fit_val {t : Nat} {c v : Int32} (h : kf_fit t c v = true) : kf_val v := by
  unfold kf_fit at h
  unfold kf_val
  split at h
  · rw [Bool.or_eq_true, decide_eq_true_eq] at h
    rcases h with h | h
    · exact Or.inl h
    · exact Or.inr (Or.inl h)
  · split at h
    · split at h
      · exact Or.inl (key_num h)
      · split at h
        · rw [Bool.or_eq_true, decide_eq_true_eq] at h
          rcases h with h | h
          · exact Or.inl h
          · exact Or.inr (Or.inl h)
        · rw [decide_eq_true_eq] at h
          subst h
          exact Or.inl (by decide)
    · split at h
      · exact Or.inl (key_num h)
      · rw [Bool.or_eq_true, Bool.or_eq_true, decide_eq_true_eq, decide_eq_true_eq] at h
        rcases h with h | h | h
        · exact Or.inr (Or.inr h)
        · exact Or.inl h
        · exact Or.inr (Or.inl h)
theorem kept_val {t : Nat} {c v : Int32} (h : kf_val v) : kf_val (kf_kept t c v) := by
  unfold kf_kept
  split
  · refine Or.inl ?_
    rw [num_iff]
    have e0 : (0 : Int32).toInt = 0 := by decide
    have e1 : (99 : Int32).toInt = 99 := by decide
    by_cases a1 : v < 99
    · rw [if_pos a1]
      by_cases a2 : 0 < v
      · rw [if_pos a2]
        rw [Int32.lt_iff_toInt_lt] at a1 a2
        omega
      · rw [if_neg a2, e0]
        omega
    · rw [if_neg a1, if_pos (by decide), e1]
      omega
  · exact h
theorem ki_add {T M : Nat} {A : qkA} {x a b c d : Int32} (h : qkI T M A) (hM : M ≤ 2 ^ 20) : qkI T (M + 1) (kf_add A x a b c d).2.2 := by
  have h' : qkI T (M + 1) A := h.le (Nat.le_refl _) (by omega)
  unfold kf_add
  by_cases c1 : x < 0 ∨ ¬ x < 6
  · rw [if_pos c1]; exact h'
  rw [if_neg c1]
  obtain ⟨s, hs, rfl⟩ := src_of c1
  rw [nI_clamp (n := s) (by omega)]
  by_cases c2 : kf_fits (s / 2) (kf_cell4 a b c d) = false
  · rw [if_pos c2]; exact h'
  rw [if_neg c2]
  by_cases c3 : kf_room A s a = false
  · rw [if_pos c3]; exact h'
  rw [if_neg c3]
  have c2 := eq_true_of_ne_false c2
  have c3 := eq_true_of_ne_false c3
  have hfresh := mark_fresh hs h.1 c3
  have hlen := room_len c3
  obtain ⟨r1, r2, r3, r4⟩ := h.1 s hs
  obtain ⟨l1, l2, l3⟩ := lay_asc (r := (kf_mark A s a, kf_keep (s / 2) (kf_cell4 a b c d) 4)) r2 hfresh
  have hval : qkVal (kf_mark A s a, kf_keep (s / 2) (kf_cell4 a b c d) 4) := by
    intro q hq
    show kf_val (kf_keep (s / 2) (kf_cell4 a b c d) 4 q)
    unfold kf_keep
    rw [if_pos hq]
    refine kept_val ?_
    have hfit : kf_fit (s / 2) (nI q) (kf_cell4 a b c d q) = true := by
      unfold kf_fits at c2
      rw [List.all_eq_true] at c2
      exact c2 q (List.mem_range.mpr hq)
    exact fit_val hfit
  have hI : qkI T M (kf_add1 A s a (kf_cell4 a b c d)) := by
    have hA2 : qkI T M (sSr (sQ A (upd (aQ A) 13 (kf_loss (s / 2) (kf_cell4 a b c d) (aQ A 13) 4))) (qkU (aSr A) s (upd (aSr A s) 4 (aSr A s 4 + 1)))) ∨ True := Or.inr trivial
    obtain ⟨hR, hL, hF, hD, hB, hT, hE⟩ := h
    refine ⟨fun q hq => ?_, hL, hF, hD, hB, hT, hE⟩
    obtain ⟨q1, q2, q3, q4⟩ := hR q hq
    by_cases e : q = s
    · subst e
      have hw : aRow (kf_add1 A q a (kf_cell4 a b c d)) q = kf_lay (aRow A q) (kf_mark A q a, kf_keep (q / 2) (kf_cell4 a b c d) 4) := qkU_s
      have hw2 : aSr (kf_add1 A q a (kf_cell4 a b c d)) q = upd (aSr A q) 4 (aSr A q 4 + 1) := qkU_s
      rw [hw, hw2]
      refine ⟨⟨by rw [l2]; omega, fun r hr => ?_⟩, l1, fun w => ?_, ?_⟩
      · rcases l3 r hr with hr | rfl
        · exact q1.2 r hr
        · exact hval
      · obtain ⟨n, n1, n2, n3⟩ := q3 w
        have hk : kf_hasKey (q / 2) = false := by
          unfold kf_hasKey
          simp only [decide_eq_false_iff_not, Classical.not_not]
          omega
        have hn60 : n ≤ 59 := by
          unfold kf_room at c3
          rw [hk, Bool.and_eq_true] at c3
          have h2 := of_decide_eq_true c3.2
          rw [n2] at h2
          have : ¬ 60 ≤ n := fun w => h2 (nI_le (a := 60) w (by omega))
          omega
        refine ⟨n + 1, by omega, ?_, fun r hr => ?_⟩
        · rw [upd_s, n2, nI_1]
        · rcases l3 r hr with hr | rfl
          · obtain ⟨m, hm, em⟩ := n3 r hr
            exact ⟨m, by omega, em⟩
          · refine ⟨n, by omega, ?_⟩
            show kf_mark A q a = nI n
            unfold kf_mark
            rw [hk, if_neg (by decide)]
            exact n2
      · rw [upd_n (by decide)]
        exact q4
    · have hw : aRow (kf_add1 A s a (kf_cell4 a b c d)) q = aRow A q := qkU_n e
      have hw2 : aSr (kf_add1 A s a (kf_cell4 a b c d)) q = aSr A q := qkU_n e
      rw [hw, hw2]
      exact ⟨q1, q2, q3, q4⟩
  exact hI.written hs hM
theorem ki_change {T M : Nat} {A : qkA} {x m c y : Int32} (h : qkI T M A) (hM : M ≤ 2 ^ 20) : qkI T (M + 1) (kf_change A x m c y).2.2 := by
  have h' : qkI T (M + 1) A := h.le (Nat.le_refl _) (by omega)
  unfold kf_change
  by_cases c1 : x < 0 ∨ ¬ x < 6
  · rw [if_pos c1]; exact h'
  rw [if_neg c1]
  obtain ⟨s, hs, rfl⟩ := src_of c1
  rw [nI_clamp (n := s) (by omega)]
  cases hat : kf_at (aRow A s) m with
  | none => exact h'
  | some k =>
    dsimp only
    by_cases c2 : c < 0 ∨ ¬ c < kf_cols (s / 2)
    · rw [if_pos c2]; exact h'
    rw [if_neg c2]
    by_cases c3 : ((decide (0 < c) || !kf_hasKey (s / 2)) && kf_fit (s / 2) c y) = false
    · rw [if_pos c3]; exact h'
    rw [if_neg c3]
    obtain ⟨hk, _⟩ := at_some hat
    have hg : (aRow A s)[k]? = some (aRow A s)[k] := List.getElem?_eq_getElem hk
    rw [hg]
    obtain ⟨j, hj, _, rfl⟩ := col_of c2
    have c3 := eq_true_of_ne_false c3
    rw [Bool.and_eq_true] at c3
    show qkI T (M + 1) (kf_chg A s k (aRow A s)[k] (nI j) y)
    unfold kf_chg
    obtain ⟨r1, r2, r3, r4⟩ := h.1 s hs
    have hv := r1.2 _ (List.getElem_mem hk)
    have hmem : ∀ r ∈ (aRow A s).set k ((aRow A s)[k].1, kf_with (aRow A s)[k].2 (nI j) (kf_kept (s / 2) (nI j) y)), r ∈ aRow A s ∨ r = ((aRow A s)[k].1, kf_with (aRow A s)[k].2 (nI j) (kf_kept (s / 2) (nI j) y)) := fun r hr => List.mem_or_eq_of_mem_set hr
    have hI := (h.q13 (x := aQ A 13 + (if kf_kept (s / 2) (nI j) y = y then 0 else 1))).rows (s := s) (rows := (aRow A s).set k ((aRow A s)[k].1, kf_with (aRow A s)[k].2 (nI j) (kf_kept (s / 2) (nI j) y))) ⟨by rw [List.length_set]; exact r1.1, fun r hr => ?_⟩ ?_ (fun w => ?_)
    · exact hI.written hs hM
    · rcases hmem r hr with hr | rfl
      · exact r1.2 r hr
      · intro q hq
        show kf_val (kf_with _ (nI j) _ q)
        rw [with_in hq hj]
        split
        · exact kept_val (fit_val c3.2)
        · exact hv q hq
    · unfold qkAsc at r2 ⊢
      rw [List.pairwise_iff_getElem] at r2 ⊢
      intro i i' hi hi' hlt
      rw [List.length_set] at hi hi'
      have := r2 i i' hi hi' hlt
      rw [List.getElem_set, List.getElem_set]
      split
      · rename_i e
        split
        · omega
        · subst e
          exact this
      · split
        · rename_i e
          subst e
          exact this
        · exact this
    · obtain ⟨n, n1, n2, n3⟩ := r3 w
      refine ⟨n, n1, n2, fun r hr => ?_⟩
      rcases hmem r hr with hr | rfl
      · exact n3 r hr
      · obtain ⟨m', hm', em'⟩ := n3 _ (List.getElem_mem hk)
        exact ⟨m', hm', em'⟩
theorem qkI.erase {T M s k : Nat} {A : qkA} (h : qkI T M A) (hs : s < 6) : qkI T M (sRow A (qkU (aRow A) s ((aRow A s).eraseIdx k))) := by
  obtain ⟨r1, r2, r3, r4⟩ := h.1 s hs
  have hsub := List.eraseIdx_sublist (aRow A s) k
  refine h.rows ⟨Nat.le_trans hsub.length_le r1.1, fun r hr => r1.2 r (hsub.subset hr)⟩ (r2.sublist hsub) (fun w => ?_)
  obtain ⟨n, n1, n2, n3⟩ := r3 w
  exact ⟨n, n1, n2, fun r hr => n3 r (hsub.subset hr)⟩
theorem ki_remove {T M : Nat} {A : qkA} {x m : Int32} (h : qkI T M A) (hM : M ≤ 2 ^ 20) : qkI T (M + 1) (kf_remove A x m).2.2 := by
  have h' : qkI T (M + 1) A := h.le (Nat.le_refl _) (by omega)
  unfold kf_remove
  by_cases c1 : x < 0 ∨ ¬ x < 6
  · rw [if_pos c1]; exact h'
  rw [if_neg c1]
  obtain ⟨s, hs, rfl⟩ := src_of c1
  rw [nI_clamp (n := s) (by omega)]
  cases hat : kf_at (aRow A s) m with
  | none => exact h'
  | some k => exact (h.erase hs).written hs hM
/-! stores, the draft -/
theorem rng {v lo hi : Int32} {n : Nat} (hM : hi.toInt = n) (h0 : 0 ≤ lo) (h : ¬ (v < lo ∨ hi < v)) : ∃ d, d ≤ n ∧ v = nI d := by
  rw [not_or] at h
  exact nI_of2 hM (fun z => h.1 (Int32.lt_of_lt_of_le z h0)) (Int32.not_lt.mp h.2)
theorem qkI.ln2 {T M l k : Nat} {x : Int32} {A : qkA} (h : qkI T M A) (hl : l < 3) (h1 : k = 1 → ∃ d, d ≤ 30 ∧ x = nI d) (h2 : k = 2 → ∃ d, d ≤ 60 ∧ x = nI d) (h4 : k = 4 → ∃ d, d ≤ 12 ∧ x = nI d) (h7 : k = 7 → x = 0 ∨ x = 1) : qkI T M (kf_ln A l k x) := by
  obtain ⟨hR, hL, hF, hD, hB, hT, hE⟩ := h
  have at' : ∀ j i, aLn (kf_ln A l k x) j i = if j = l ∧ i = k then x else aLn A j i := by
    intro j i
    show qkU (aLn A) l (upd (aLn A l) k x) j i = _
    by_cases e : j = l
    · subst e
      rw [qkU_s]
      by_cases e' : i = k
      · rw [e', upd_s, if_pos ⟨rfl, rfl⟩]
      · rw [upd_n e', if_neg (fun z => e' z.2)]
    · rw [qkU_n e, if_neg (fun z => e z.1)]
  refine ⟨hR, fun j hj => ?_, hF, hD, hB, hT, hE⟩
  obtain ⟨l1, l2, l4, l7⟩ := hL j hj
  rw [at', at', at', at']
  refine ⟨?_, ?_, ?_, ?_⟩
  · split
    · rename_i e; exact h1 e.2.symm
    · exact l1
  · split
    · rename_i e; exact h2 e.2.symm
    · exact l2
  · split
    · rename_i e; exact h4 e.2.symm
    · exact l4
  · split
    · rename_i e; exact h7 e.2.symm
    · exact l7
theorem ki_setPace {T M : Nat} {A : qkA} {v d l : Int32} (h : qkI T M A) : qkI T M (kf_setPace A v d l).2.2 := by
  unfold kf_setPace
  by_cases c1 : v < 0 ∨ ¬ v < 3
  · rw [if_pos c1]; exact h
  rw [if_neg c1]
  by_cases c2 : (d < 0 ∨ 30 < d) ∨ (l < 0 ∨ 60 < l)
  · rw [if_pos c2]; exact h
  rw [if_neg c2]
  rw [not_or] at c2
  obtain ⟨s, hs, rfl⟩ := sto_of c1
  rw [nI_clamp (n := s) (by omega)]
  exact (h.ln2 hs (fun _ => rng (by decide) (by decide) c2.1) (fun e => absurd e (by decide)) (fun e => absurd e (by decide)) (fun e => absurd e (by decide))).ln2 hs (fun e => absurd e (by decide)) (fun _ => rng (by decide) (by decide) c2.2) (fun e => absurd e (by decide)) (fun e => absurd e (by decide))
theorem ki_setBounds {T M : Nat} {A : qkA} {v d l : Int32} (h : qkI T M A) : qkI T M (kf_setBounds A v d l).2.2 := by
  unfold kf_setBounds
  by_cases c1 : v < 0 ∨ ¬ v < 3
  · rw [if_pos c1]; exact h
  rw [if_neg c1]
  by_cases c2 : (d < 1 ∨ 20 < d) ∨ (l < 0 ∨ 12 < l)
  · rw [if_pos c2]; exact h
  rw [if_neg c2]
  rw [not_or] at c2
  obtain ⟨s, hs, rfl⟩ := sto_of c1
  rw [nI_clamp (n := s) (by omega)]
  exact (h.ln2 hs (fun e => absurd e (by decide)) (fun e => absurd e (by decide)) (fun e => absurd e (by decide)) (fun e => absurd e (by decide))).ln2 hs (fun e => absurd e (by decide)) (fun e => absurd e (by decide)) (fun _ => rng (by decide) (by decide) c2.2) (fun e => absurd e (by decide))
theorem ki_setLease {T M : Nat} {A : qkA} {v l : Int32} (h : qkI T M A) : qkI T M (kf_setLease A v l).2.2 := by
  unfold kf_setLease
  by_cases c1 : v < 0 ∨ ¬ v < 3
  · rw [if_pos c1]; exact h
  rw [if_neg c1]
  by_cases c2 : l < 0 ∨ 200 < l
  · rw [if_pos c2]; exact h
  rw [if_neg c2]
  obtain ⟨s, hs, rfl⟩ := sto_of c1
  rw [nI_clamp (n := s) (by omega)]
  obtain ⟨t, ht, et⟩ := h.2.2.2.2.2.1.now
  have := (h.ln2 (k := 5) (x := l) hs (fun e => absurd e (by decide)) (fun e => absurd e (by decide)) (fun e => absurd e (by decide)) (fun e => absurd e (by decide))).go ht (Nat.le_refl _)
  show qkI T M (kf_goTo (kf_ln A s 5 l) (aQ A 15))
  rw [et]
  exact this
theorem ki_fail {T M : Nat} {A : qkA} {v n d : Int32} (hd : d = 0 ∨ d = 1) (h : qkI T M A) : qkI T M (kf_fail A v n d).2.2 := by
  unfold kf_fail
  by_cases c1 : v < 0 ∨ ¬ v < 3
  · rw [if_pos c1]; exact h
  rw [if_neg c1]
  by_cases c2 : n < 0 ∨ 20 < n
  · rw [if_pos c2]; exact h
  rw [if_neg c2]
  obtain ⟨s, hs, rfl⟩ := sto_of c1
  rw [nI_clamp (n := s) (by omega)]
  exact (h.ln2 hs (fun e => absurd e (by decide)) (fun e => absurd e (by decide)) (fun e => absurd e (by decide)) (fun e => absurd e (by decide))).ln2 hs (fun e => absurd e (by decide)) (fun e => absurd e (by decide)) (fun e => absurd e (by decide)) (fun _ => hd)
theorem ki_forbid {T M : Nat} {A : qkA} {v t d : Int32} (hd : d = 0 ∨ d = 1) (h : qkI T M A) : qkI T M (kf_forbid A v t d).2.2 := by
  unfold kf_forbid
  by_cases c1 : v < 0 ∨ ¬ v < 6
  · rw [if_pos c1]; exact h
  rw [if_neg c1]
  by_cases c2 : t < 0 ∨ ¬ t < 3
  · rw [if_pos c2]; exact h
  rw [if_neg c2]
  obtain ⟨hR, hL, hF, hD, hB, hT, hE⟩ := h
  refine ⟨hR, hL, fun s hs q hq => ?_, hD, hB, hT, hE⟩
  show qkU (aFb A) v.toNatClampNeg (upd (aFb A v.toNatClampNeg) t.toNatClampNeg d) s q = 0 ∨ qkU (aFb A) v.toNatClampNeg (upd (aFb A v.toNatClampNeg) t.toNatClampNeg d) s q = 1
  by_cases e : s = v.toNatClampNeg
  · rw [e, qkU_s]
    by_cases e' : q = t.toNatClampNeg
    · rw [e', upd_s]; exact hd
    · rw [upd_n e', ← e]; exact hF s hs q hq
  · rw [qkU_n e]; exact hF s hs q hq
theorem ki_pass {T M : Nat} {A : qkA} {v : Int32} (h : qkI T M A) : qkI (T + 100) M (kf_pass A v).2.2 := by
  unfold kf_pass
  by_cases c1 : v < 1 ∨ 100 < v
  · rw [if_pos c1]; exact h.le (by omega) (Nat.le_refl _)
  rw [if_neg c1]
  obtain ⟨d, hd, ed⟩ := rng (n := 100) (by decide) (by decide) c1
  obtain ⟨t, ht, et⟩ := h.2.2.2.2.2.1.now
  show qkI (T + 100) M (kf_goTo A (aQ A 15 + v))
  rw [et, ed, nI_add]
  exact h.go (by omega) (by omega)
theorem ki_seat {T M : Nat} {A : qkA} {v : Int32} (h : qkI T M A) : qkI T M (kf_seat A v).2.2 := by
  unfold kf_seat
  by_cases c1 : v < 0 ∨ ¬ v < 6
  · rw [if_pos c1]; exact h
  rw [if_neg c1]
  by_cases c2 : 3 ≤ (aSeat A).length
  · rw [if_pos c2]; exact h
  rw [if_neg c2]
  obtain ⟨hR, hL, hF, ⟨⟨d1', d2⟩, ⟨d3, d4⟩, ⟨d5, d6⟩, ⟨d7, d8⟩, d9⟩, hB, hT, hE⟩ := h
  have hl : (aSeat A ++ [v]).length = (aSeat A).length + 1 := by rw [List.length_append]; rfl
  refine ⟨hR, hL, hF, ⟨⟨?_, fun k w hw => ?_⟩, ⟨d3, fun l hl' => ?_⟩, ⟨d5, fun c hc => ?_⟩, ⟨d7, fun o ho => ?_⟩, d9⟩, hB, hT, hE⟩
  · show (aSeat A ++ [v]).length ≤ 3
    omega
  · rcases app_at hw with ⟨_, hw⟩ | ⟨_, rfl⟩
    · exact d2 k w hw
    · exact src_of c1
  · obtain ⟨⟨a, b, h1, h2, h3, h4⟩, h5⟩ := d4 l hl'
    refine ⟨⟨a, b, h1, ?_, h3, h4⟩, h5⟩
    show b < (aSeat A ++ [v]).length
    omega
  · obtain ⟨⟨a, h1, h2⟩, h5⟩ := d6 c hc
    refine ⟨⟨a, ?_, h2⟩, h5⟩
    show a < (aSeat A ++ [v]).length
    omega
  · obtain ⟨⟨a, h1, h2⟩, h5⟩ := d8 o ho
    refine ⟨⟨a, ?_, h2⟩, h5⟩
    show a < (aSeat A ++ [v]).length
    omega
theorem kc_of {A : qkA} {a b : Int32} (hi : iD A) (h : ¬ kf_kc A a b = true) : (∃ k, k < (aSeat A).length ∧ a = nI k) ∧ ∃ j, j < 4 ∧ b = nI j := by
  have h3 := hi.1.1
  unfold kf_kc at h
  rw [decide_eq_true_eq, not_or] at h
  obtain ⟨h1, h2⟩ := h
  refine ⟨?_, ?_⟩
  · rw [not_or, Classical.not_not] at h1
    obtain ⟨k, hk, e⟩ := ix_of _ (by omega) h1.1 h1.2
    exact ⟨k, hk, e⟩
  · obtain ⟨j, hj, _, e⟩ := col_of h2
    exact ⟨j, hj, e⟩
theorem ki_link {T M : Nat} {A : qkA} {a b c d : Int32} (h : qkI T M A) : qkI T M (kf_link A a b c d).2.2 := by
  unfold kf_link
  by_cases c1 : kf_kc A a b = true
  · rw [if_pos c1]; exact h
  rw [if_neg c1]
  by_cases c2 : kf_kc A c d = true
  · rw [if_pos c2]; exact h
  rw [if_neg c2]
  by_cases c3 : c ≤ a
  · rw [if_pos c3]; exact h
  rw [if_neg c3]
  by_cases c4 : 3 ≤ (aLink A).length
  · rw [if_pos c4]; exact h
  rw [if_neg c4]
  obtain ⟨⟨k1, hk1, e1⟩, j1, hj1, f1⟩ := kc_of h.2.2.2.1 c1
  obtain ⟨⟨k2, hk2, e2⟩, j2, hj2, f2⟩ := kc_of h.2.2.2.1 c2
  have h3 := h.2.2.2.1.1.1
  obtain ⟨hR, hL, hF, ⟨d1', ⟨d3, d4⟩, d5, d7, d9⟩, hB, hT, hE⟩ := h
  refine ⟨hR, hL, hF, ⟨d1', ⟨?_, fun l hl => ?_⟩, d5, d7, d9⟩, hB, hT, hE⟩
  · show (aLink A ++ [(a, b, c, d)]).length ≤ 3
    rw [List.length_append]
    simp only [List.length_cons, List.length_nil]
    omega
  · have hl : l ∈ aLink A ++ [(a, b, c, d)] := hl
    rcases List.mem_append.mp hl with hl | hl
    · exact d4 l hl
    · rw [List.mem_singleton] at hl
      subst hl
      refine ⟨⟨k1, k2, ?_, hk2, e1, e2⟩, ⟨j1, hj1, f1⟩, ⟨j2, hj2, f2⟩⟩
      rw [e1, e2] at c3
      apply Classical.byContradiction
      intro w
      exact c3 (nI_le (by omega) (by omega))
theorem ki_where {T M : Nat} {A : qkA} {a b k n : Int32} (h : qkI T M A) : qkI T M (kf_where A a b k n).2.2 := by
  unfold kf_where
  by_cases c1 : kf_kc A a b = true
  · rw [if_pos c1]; exact h
  rw [if_neg c1]
  by_cases c2 : k < 0 ∨ 4 < k
  · rw [if_pos c2]; exact h
  rw [if_neg c2]
  by_cases c3 : (if 2 < k then decide (n = 0) else kf_num n) = false
  · rw [if_pos c3]; exact h
  rw [if_neg c3]
  by_cases c4 : 4 ≤ (aCond A).length
  · rw [if_pos c4]; exact h
  rw [if_neg c4]
  obtain ⟨⟨k1, hk1, e1⟩, j1, hj1, f1⟩ := kc_of h.2.2.2.1 c1
  obtain ⟨kk, hkk, ekk⟩ := rng (n := 4) (by decide) (by decide) c2
  obtain ⟨hR, hL, hF, ⟨d1', d3, ⟨d5, d6⟩, d7, d9⟩, hB, hT, hE⟩ := h
  refine ⟨hR, hL, hF, ⟨d1', d3, ⟨?_, fun l hl => ?_⟩, d7, d9⟩, hB, hT, hE⟩
  · show (aCond A ++ [(a, b, k, n)]).length ≤ 4
    rw [List.length_append]
    simp only [List.length_cons, List.length_nil]
    omega
  · have hl : l ∈ aCond A ++ [(a, b, k, n)] := hl
    rcases List.mem_append.mp hl with hl | hl
    · exact d6 l hl
    · rw [List.mem_singleton] at hl
      subst hl
      refine ⟨⟨k1, hk1, e1⟩, ⟨j1, hj1, f1⟩, ⟨kk, by omega, ekk⟩, fun z => ?_⟩
      have z : k = 0 := z
      have c3 := eq_true_of_ne_false c3
      rw [if_neg (by rw [z]; decide)] at c3
      exact c3
theorem ki_outp {T M : Nat} {A : qkA} {a b : Int32} (h : qkI T M A) : qkI T M (kf_outp A a b).2.2 := by
  unfold kf_outp
  by_cases c1 : kf_kc A a b = true
  · rw [if_pos c1]; exact h
  rw [if_neg c1]
  by_cases c4 : 3 ≤ (aOut A).length
  · rw [if_pos c4]; exact h
  rw [if_neg c4]
  obtain ⟨⟨k1, hk1, e1⟩, j1, hj1, f1⟩ := kc_of h.2.2.2.1 c1
  obtain ⟨hR, hL, hF, ⟨d1', d3, d5, ⟨d7, d8⟩, d9⟩, hB, hT, hE⟩ := h
  refine ⟨hR, hL, hF, ⟨d1', d3, d5, ⟨?_, fun l hl => ?_⟩, d9⟩, hB, hT, hE⟩
  · show (aOut A ++ [(a, b)]).length ≤ 3
    rw [List.length_append]
    simp only [List.length_cons, List.length_nil]
    omega
  · have hl : l ∈ aOut A ++ [(a, b)] := hl
    rcases List.mem_append.mp hl with hl | hl
    · exact d8 l hl
    · rw [List.mem_singleton] at hl
      subst hl
      exact ⟨⟨k1, hk1, e1⟩, ⟨j1, hj1, f1⟩⟩
theorem ki_shape {T M : Nat} {A : qkA} {a b : Int32} (hb : b = 0 ∨ b = 1) (h : qkI T M A) : qkI T M (kf_shape A a b).2 := by
  unfold kf_shape
  by_cases c1 : a < 1 ∨ 40 < a
  · rw [if_pos c1]; exact h
  rw [if_neg c1]
  obtain ⟨n, hn, en⟩ := rng (n := 40) (by decide) (by decide) c1
  obtain ⟨hR, hL, hF, ⟨d1', d3, d5, d7, d9, d10⟩, hB, hT, hE⟩ := h
  refine ⟨hR, hL, hF, ⟨d1', d3, d5, d7, ⟨n, ?_, hn, en⟩, hb⟩, hB, hT, hE⟩
  rw [not_or, en] at c1
  apply Classical.byContradiction
  intro w
  obtain rfl : n = 0 := by omega
  exact c1.1 (by decide)
theorem ki_clear {T M : Nat} {A : qkA} (h : qkI T M A) : qkI T M (kf_clear A) := by
  obtain ⟨hR, hL, hF, _, hB, hT, hE⟩ := h
  exact ⟨hR, hL, hF, ⟨⟨Nat.zero_le _, fun k v hv => absurd (show ([] : List Int32)[k]? = some v from hv) (by simp)⟩, ⟨Nat.zero_le _, fun l hl => absurd (show l ∈ ([] : List qkC) from hl) (by simp)⟩, ⟨Nat.zero_le _, fun l hl => absurd (show l ∈ ([] : List qkC) from hl) (by simp)⟩, ⟨Nat.zero_le _, fun l hl => absurd (show l ∈ ([] : List qkOut) from hl) (by simp)⟩, ⟨40, by omega, by omega, rfl⟩, Or.inl rfl⟩, hB, hT, hE⟩
theorem ki_step {T M : Nat} {A : qkA} {k s a b c d : Int32} (h : qkI T M A) : qkI T M (kf_step2 A k s a b c d).2.2 := by
  unfold kf_step2
  by_cases c1 : s < 0 ∨ ¬ s < 6
  · rw [if_pos c1]; exact h
  rw [if_neg c1]
  by_cases c2 : k < 0 ∨ 2 < k
  · rw [if_pos c2]; exact h
  rw [if_neg c2]
  by_cases c3 : kf_stepOk k b c d = false
  · rw [if_pos c3]; exact h
  rw [if_neg c3]
  by_cases c4 : 4 ≤ (aBun A).length
  · rw [if_pos c4]; exact h
  rw [if_neg c4]
  obtain ⟨kk, hkk, ekk⟩ := rng (n := 2) (by decide) (by decide) c2
  obtain ⟨hR, hL, hF, hD, ⟨b1, b2'⟩, hT, hE⟩ := h
  refine ⟨hR, hL, hF, hD, ⟨?_, fun f hf => ?_⟩, hT, hE⟩
  · show (aBun A ++ [kf_six k s a b c d]).length ≤ 4
    rw [List.length_append]
    simp only [List.length_cons, List.length_nil]
    omega
  · have hf : f ∈ aBun A ++ [kf_six k s a b c d] := hf
    rcases List.mem_append.mp hf with hf | hf
    · exact b2' f hf
    · rw [List.mem_singleton] at hf
      subst hf
      exact ⟨src_of c1, ⟨kk, by omega, ekk⟩⟩
