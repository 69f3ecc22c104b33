/-! SQ 5: rows laid, taken out, put -/
set_option maxRecDepth 100000
/-- what a write leaves as it is -/
def wF (A : qkA) (s : Nat) (S S' : qm_S) : Prop := (∀ k, k ≠ 7 → k ≠ 39 → S'.1 k = S.1 k) ∧ S'.1 7 = aQ A 14 + 1 ∧ (∀ k, k ≠ 1 → k ≠ 2 → k ≠ 3 → k ≠ 5 → (k < 40 ∨ 51 < k) → S'.2 k = S.2 k) ∧ S'.2 5 = upd (S.2 5) s (aQ A 14 + 1)
theorem rRows_ins {mk ce : Nat → Int32} {o p : Nat} {rows : List qkRow} {r0 : qkRow} (hp : p ≤ rows.length) (h1 : ∀ j r, j < p → rows[j]? = some r → rRow mk ce (o + j) r) (h2 : ∀ j r, p ≤ j → rows[j]? = some r → rRow mk ce (o + j + 1) r) (h0 : rRow mk ce (o + p) r0) : rRows mk ce o (rows.take p ++ r0 :: rows.drop p) := by
  intro k r hk
  have hl : (rows.take p).length = p := by rw [List.length_take]; omega
  by_cases c : k < p
  · rw [List.getElem?_append_left (by omega), List.getElem?_take, if_pos c] at hk
    exact h1 k r c hk
  · rw [List.getElem?_append_right (by omega), hl] at hk
    by_cases e : k = p
    · subst e
      rw [Nat.sub_self] at hk
      simp at hk
      subst hk
      exact h0
    · obtain ⟨j, rfl⟩ : ∃ j, k = p + (j + 1) := ⟨k - p - 1, by omega⟩
      rw [Nat.add_sub_cancel_left, List.getElem?_cons_succ, List.getElem?_drop] at hk
      have := h2 (p + j) r (by omega) hk
      rwa [show o + (p + j) + 1 = o + (p + (j + 1)) by omega] at this
theorem rRow.up {mk ce mk' ce' : Nat → Int32} {p : Nat} {r : qkRow} (h : rRow mk ce p r) (h1 : mk' p = mk p) (h2 : ∀ c, c < 4 → ce' (4 * p + c) = ce (4 * p + c)) : rRow mk' ce' p r := ⟨h1.trans h.1, fun c hc => (h2 c hc).trans (h.2 c hc)⟩
/-- a row written at a place -/
def f_row4 (ce : Nat → Int32) (p : Nat) (a b c d : Int32) : Nat → Int32 := upd (upd (upd (upd ce (4 * p) a) (4 * p + 1) b) (4 * p + 2) c) (4 * p + 3) d
theorem row4_in {ce : Nat → Int32} {p : Nat} {a b c d : Int32} : ∀ q, q < 4 → f_row4 ce p a b c d (4 * p + q) = kf_cell4 a b c d q := by
  intro q hq
  unfold f_row4 kf_cell4
  have : q = 0 ∨ q = 1 ∨ q = 2 ∨ q = 3 := by omega
  rcases this with rfl | rfl | rfl | rfl
  · rw [upd_n (by omega), upd_n (by omega), upd_n (by omega)]
    exact upd_s
  · rw [upd_n (by omega), upd_n (by omega)]
    exact upd_s
  · rw [upd_n (by omega)]
    exact upd_s
  · exact upd_s
theorem row4_out {ce : Nat → Int32} {p j : Nat} {a b c d : Int32} (h : j < 4 * p ∨ 4 * p + 4 ≤ j) : f_row4 ce p a b c d j = ce j := by
  unfold f_row4
  rw [upd_n (by omega), upd_n (by omega), upd_n (by omega), upd_n (by omega)]
theorem km_inserts {A : qkA} {S : qm_S} {s T M : Nat} {m a b c d : Int32} {K : qm_S → Prop} (hs : s < 6) (h7 : S.1 7 = aQ A 14) (h8 : S.1 8 = aQ A 15) (hL : cL A S) (hE : cE A S) (hR : cR A S) (hi : iE A) (ht : iT T M A) (hTM : T ≤ 2 ^ 20 ∧ M ≤ 2 ^ 20) (hl : iL A) (hr12 : (aRow A s).length ≤ 11) (hrl : ∀ q, q < 6 → (aRow A q).length ≤ 12) (has : qkAsc (aRow A s)) (hm : ∀ r ∈ aRow A s, ¬ r.1 = m)
    (hk : ∀ S' : qm_S, wF A s S S' → cR (sRow A (qkU (aRow A) s (kf_lay (aRow A s) (m, kf_cell4 a b c d)))) S' → cE (kf_written (sRow A (qkU (aRow A) s (kf_lay (aRow A s) (m, kf_cell4 a b c d)))) s) S' → K S') : T_X8_inserts (nI s) m a b c d S K := by
  obtain ⟨hn, hRs⟩ := hR s hs
  generalize hrows : aRow A s = rows at hr12 has hm hn hRs hk
  have fin : ∀ (p : Nat) (st : qm_S), p ≤ rows.length → st.1 = S.1 → (∀ k, k ≠ 2 → k ≠ 3 → st.2 k = S.2 k) → (∀ j r, j < p → rows[j]? = some r → rRow (st.2 2) (st.2 3) (12 * s + j) r) → (∀ j r, p ≤ j → rows[j]? = some r → rRow (st.2 2) (st.2 3) (12 * s + j + 1) r ∧ m < r.1) → (∀ q, (q < 12 * s ∨ 12 * s + 12 ≤ q) → st.2 2 q = S.2 2 q ∧ ∀ c, c < 4 → st.2 3 (4 * q + c) = S.2 3 (4 * q + c)) → (p = 0 ∨ ∃ r, rows[p - 1]? = some r ∧ r.1 ≤ m) → T_X8_writes (nI s) (st.1, qm_uA (qm_uA (qm_uA (qm_uA (qm_uA (qm_uA st.2 2 (upd (st.2 2) (12 * s + p) m)) 3 (upd (st.2 3) (4 * (12 * s + p)) a)) 3 (upd (upd (st.2 3) (4 * (12 * s + p)) a) (4 * (12 * s + p) + 1) b)) 3 (upd (upd (upd (st.2 3) (4 * (12 * s + p)) a) (4 * (12 * s + p) + 1) b) (4 * (12 * s + p) + 2) c)) 3 (upd (upd (upd (upd (st.2 3) (4 * (12 * s + p)) a) (4 * (12 * s + p) + 1) b) (4 * (12 * s + p) + 2) c) (4 * (12 * s + p) + 3) d)) 1 (upd (st.2 1) s (st.2 1 s + 1))) K := by
    intro p st hp h1 h2 h3 h4 h5 h6
    have hmk : ∀ k, k ≠ 1 → k ≠ 2 → k ≠ 3 → (qm_uA (qm_uA (qm_uA (qm_uA (qm_uA (qm_uA st.2 2 (upd (st.2 2) (12 * s + p) m)) 3 (upd (st.2 3) (4 * (12 * s + p)) a)) 3 (upd (upd (st.2 3) (4 * (12 * s + p)) a) (4 * (12 * s + p) + 1) b)) 3 (upd (upd (upd (st.2 3) (4 * (12 * s + p)) a) (4 * (12 * s + p) + 1) b) (4 * (12 * s + p) + 2) c)) 3 (upd (upd (upd (upd (st.2 3) (4 * (12 * s + p)) a) (4 * (12 * s + p) + 1) b) (4 * (12 * s + p) + 2) c) (4 * (12 * s + p) + 3) d)) 1 (upd (st.2 1) s (st.2 1 s + 1))) k = S.2 k := by
      intro k k1 k2 k3
      rw [uA_n k1, uA_n k3, uA_n k3, uA_n k3, uA_n k3, uA_n k2]
      exact h2 k k2 k3
    have hlay : kf_lay rows (m, kf_cell4 a b c d) = rows.take p ++ (m, kf_cell4 a b c d) :: rows.drop p := by
      unfold kf_lay
      obtain ⟨e1, e2⟩ := tw_take (fun q : qkRow => decide (¬ m ≤ q.1)) rows p hp (fun j v hj hv => by
        have hvl := (List.getElem?_eq_some_iff.mp hv)
        rcases h6 with rfl | ⟨r, hr, hle⟩
        · omega
        · have hrl' := (List.getElem?_eq_some_iff.mp hr)
          have hvr : v.1 ≤ r.1 := by
            by_cases e : j = p - 1
            · subst e
              rw [hv] at hr
              cases hr
              exact Int32.le_refl _
            · have := (List.pairwise_iff_getElem.mp has) j (p - 1) hvl.1 hrl'.1 (by omega)
              rw [hvl.2, hrl'.2] at this
              exact Int32.le_of_lt this
          have hne := hm v (List.mem_of_getElem? hv)
          simp only [decide_eq_true_eq]
          intro hmv
          exact hne (Int32.le_antisymm (Int32.le_trans hvr hle) hmv)) (fun v hv => by
        simp only [decide_eq_false_iff_not, Classical.not_not]
        exact Int32.le_of_lt (h4 p v (Nat.le_refl _) hv).2)
      rw [e1, e2]
    rw [hlay] at hk
    refine km_writes (A := sRow A (qkU (aRow A) s (rows.take p ++ (m, kf_cell4 a b c d) :: rows.drop p))) (T := T) (M := M) hs ?_ ?_ (hL.fr fun k k1 k2 => hmk k (by omega) (by omega) (by omega)) (hE.fr ?_ fun k k1 k2 => hmk k (by omega) (by omega) (by omega)) hi ht hTM hl (fun S' f1 f2 f3 f4 hc => ?_)
    · show st.1 7 = _
      rw [h1]; exact h7
    · show st.1 8 = _
      rw [h1]; exact h8
    · show st.1 39 = _
      rw [h1]
    · refine hk S' ⟨fun k k1 k2 => ?_, f2, fun k k1 k2 k3 k5 kk => ?_, ?_⟩ (fun q hq => ?_) hc
      · rw [f1 k k1 k2]
        show st.1 k = _
        rw [h1]
      · rw [f3 k k5 kk]
        exact hmk k k1 k2 k3
      · rw [f4]
        exact congrArg (fun z => upd z s (aQ A 14 + 1)) (hmk 5 (by decide) (by decide) (by decide))
      · have e1 : S'.2 1 = upd (st.2 1) s (st.2 1 s + 1) := f3 1 (by decide) (by decide)
        have e2 : S'.2 2 = upd (st.2 2) (12 * s + p) m := f3 2 (by decide) (by decide)
        have e3 : S'.2 3 = f_row4 (st.2 3) (12 * s + p) a b c d := f3 3 (by decide) (by decide)
        have s1 : st.2 1 = S.2 1 := h2 1 (by decide) (by decide)
        rw [e1, e2, e3, s1]
        by_cases e : q = s
        · subst e
          have hw : aRow (sRow A (qkU (aRow A) q (rows.take p ++ (m, kf_cell4 a b c d) :: rows.drop p))) q = rows.take p ++ (m, kf_cell4 a b c d) :: rows.drop p := qkU_s
          rw [hw]
          refine ⟨?_, rRows_ins hp (fun j r hj hr => ?_) (fun j r hj hr => ?_) ⟨upd_s, row4_in⟩⟩
          · rw [upd_s, hn, nI_1]
            congr 1
            simp
            omega
          · exact (h3 j r hj hr).up (upd_n (by omega)) (fun c hc => row4_out (by omega))
          · exact (h4 j r hj hr).1.up (upd_n (by omega)) (fun c hc => row4_out (by omega))
        · have hw : aRow (sRow A (qkU (aRow A) s (rows.take p ++ (m, kf_cell4 a b c d) :: rows.drop p))) q = aRow A q := qkU_n e
          rw [hw, upd_n e]
          obtain ⟨g1, g2⟩ := hR q hq
          refine ⟨g1, fun j r hj => ?_⟩
          have hjl := (List.getElem?_eq_some_iff.mp hj).1
          have := hrl q hq
          obtain ⟨z1, z2⟩ := h5 (12 * q + j) (by omega)
          exact (g2 j r hj).up ((upd_n (by omega)).trans z1) (fun c hc => (row4_out (by omega)).trans (z2 c hc))
  unfold T_X8_inserts
  rw [nI_clamp (n := s) (by omega), hn]
  refine ⟨pk_in s 6 hs, ?_⟩
  intro X hX
  refine lpd (P := fun p st => X (nI p) st) (fun p st => p ≤ rows.length ∧ st.1 = S.1 ∧ (∀ k, k ≠ 2 → k ≠ 3 → st.2 k = S.2 k) ∧ (∀ j r, j < p → rows[j]? = some r → rRow (st.2 2) (st.2 3) (12 * s + j) r) ∧ (∀ j r, p ≤ j → rows[j]? = some r → rRow (st.2 2) (st.2 3) (12 * s + j + 1) r ∧ m < r.1) ∧ (∀ q, (q < 12 * s ∨ 12 * s + 12 ≤ q) → st.2 2 q = S.2 2 q ∧ ∀ c, c < 4 → st.2 3 (4 * q + c) = S.2 3 (4 * q + c))) (fun p st hI ih => ?_) rows.length S ⟨Nat.le_refl _, rfl, fun _ _ _ => rfl, fun j r _ hr => hRs j r hr, fun j r hj hr => absurd (List.getElem?_eq_some_iff.mp hr).1 (by omega), fun _ _ => ⟨rfl, fun _ _ => rfl⟩⟩
  obtain ⟨hp, h1, h2, h3, h4, h5⟩ := hI
  refine hX _ _ ?_
  intro J hJ
  have hJ' : (p = 0 ∨ ∃ r, rows[p - 1]? = some r ∧ r.1 ≤ m) → J := by
    intro h6
    have := fin p st hp h1 h2 h3 h4 h5 h6
    refine hJ ?_
    rw [m_12, nI_add, m_4, nI_1, p_2, p_3, nI_clamp (n := 12 * s + p) (by omega), nI_clamp (n := 4 * (12 * s + p)) (by omega), nI_clamp (n := 4 * (12 * s + p) + 1) (by omega), nI_clamp (n := 4 * (12 * s + p) + 2) (by omega), nI_clamp (n := 4 * (12 * s + p) + 3) (by omega)]
    exact ⟨ik 72 (by omega), ik 288 (by omega), ik 288 (by omega), ik 288 (by omega), ik 288 (by omega), this⟩
  refine pk_le p 0 (fun z => hJ' (Or.inl (by omega))) (fun z => ?_)
  have hg : rows[p - 1]? = some (rows[p - 1]'(by omega)) := List.getElem?_eq_getElem (by omega)
  have hrow := h3 (p - 1) _ (by omega) hg
  have eo : 12 * s + p - 1 = 12 * s + (p - 1) := by omega
  rw [m_12, nI_add, s_1 (by omega), nI_clamp (n := 12 * s + p - 1) (by omega), nI_clamp (n := 12 * s + p) (by omega), eo, hrow.1]
  refine ⟨ik 72 (by omega), fun q => hJ' (Or.inr ⟨_, hg, q⟩), fun q => ⟨ik 72 (by omega), ?_⟩⟩
  clear hJ hJ' hX fin
  intro Y hY
  refine lp (P := fun n u => Y (nI n) u) 4 (fun n u => u = (st.1, qm_uA (qm_uA st.2 2 (upd (st.2 2) (12 * s + p) (rows[p - 1]'(by omega)).1)) 3 (kcp (4 * (12 * s + (p - 1))) (4 * (12 * s + p)) n (st.2 3)))) (fun n u hn' hI ih' => ?_) 0 _ (by omega) ?_
  · subst hI
    refine hY _ _ (pk_le 4 n (fun z' => ?_) (fun z' => ?_))
    · obtain rfl : n = 4 := by omega
      rw [s_m (by omega)]
      refine ih (p - 1) _ (by omega) ⟨by omega, h1, fun k k2 k3 => ?_, fun j r hj hr => ?_, fun j r hj hr => ?_, fun q' hq' => ?_⟩
      · show qm_uA (qm_uA st.2 2 _) 3 _ k = _
        rw [uA_n k3, uA_n k2]
        exact h2 k k2 k3
      · exact (h3 j r (by omega) hr).up (upd_n (by omega)) (fun c hc => kcp_out (by omega))
      · by_cases e : j = p - 1
        · subst e
          rw [hg] at hr
          cases hr
          refine ⟨?_, Int32.not_le.mp q⟩
          rw [show 12 * s + (p - 1) + 1 = 12 * s + p by omega]
          exact ⟨upd_s, fun c hc => (kcp_in hc).trans (hrow.2 c hc)⟩
        · obtain ⟨g1, g2⟩ := h4 j r (by omega) hr
          exact ⟨g1.up (upd_n (by omega)) (fun c hc => kcp_out (by omega)), g2⟩
      · obtain ⟨g1, g2⟩ := h5 q' hq'
        exact ⟨(upd_n (by omega)).trans g1, fun c hc => (kcp_out (by omega)).trans (g2 c hc)⟩
    · have ih'' := ih' z' _ rfl
      rw [← kcp_s (by omega)] at ih''
      rw [m_4, m_4, nI_add, nI_add, nI_1, nI_clamp (n := 4 * (12 * s + (p - 1)) + n) (by omega), nI_clamp (n := 4 * (12 * s + p) + n) (by omega)]
      refine ⟨ik 288 (by omega), ik 288 (by omega), ?_⟩
      dsimp only
      rw [uA_s, uA_2]
      exact ih''
  · rw [kcp_0]
    exact Prod.ext rfl (uA_id (f := qm_uA st.2 2 (upd (st.2 2) (12 * s + p) (rows[p - 1]'(by omega)).1)) (k := 3)).symm
theorem km_takesOut {A : qkA} {S : qm_S} {s T M k0 : Nat} {m : Int32} {K : qm_S → Prop} (hs : s < 6) (h7 : S.1 7 = aQ A 14) (h8 : S.1 8 = aQ A 15) (hL : cL A S) (hE : cE A S) (hR : cR A S) (hi : iE A) (ht : iT T M A) (hTM : T ≤ 2 ^ 20 ∧ M ≤ 2 ^ 20) (hl : iL A) (hrl : ∀ q, q < 6 → (aRow A q).length ≤ 12) (has : qkAsc (aRow A s)) (hm : kf_at (aRow A s) m = some k0)
    (hk : ∀ S' : qm_S, wF A s S S' → cR (sRow A (qkU (aRow A) s ((aRow A s).eraseIdx k0))) S' → cE (kf_written (sRow A (qkU (aRow A) s ((aRow A s).eraseIdx k0))) s) S' → K S') : T_X8_takesOut (nI s) m S K := by
  obtain ⟨hn, hRs⟩ := hR s hs
  have hr12 := hrl s hs
  obtain ⟨hk0, _⟩ := at_some hm
  unfold T_X8_takesOut
  refine km_placeOf hs hn hr12 hRs has ?_
  rw [pl_some hm]
  generalize hrows : aRow A s = rows at hr12 has hm hn hRs hk hk0
  rw [nI_clamp (n := s) (by omega), hn, s_1 (by omega)]
  refine ⟨pk_in s 6 hs, ?_⟩
  intro X hX
  refine lp (P := fun n st => X (nI n) st) (rows.length - 1) (fun n st => k0 ≤ n ∧ st.1 = S.1 ∧ (∀ k, k ≠ 1 → k ≠ 2 → k ≠ 3 → st.2 k = S.2 k) ∧ st.2 1 = upd (S.2 1) s (nI (rows.length - 1)) ∧ (∀ j r, j < n → (rows.eraseIdx k0)[j]? = some r → rRow (st.2 2) (st.2 3) (12 * s + j) r) ∧ (∀ j r, n < j → rows[j]? = some r → rRow (st.2 2) (st.2 3) (12 * s + j) r) ∧ (∀ q, (q < 12 * s ∨ 12 * s + 12 ≤ q) → st.2 2 q = S.2 2 q ∧ ∀ c, c < 4 → st.2 3 (4 * q + c) = S.2 3 (4 * q + c))) (fun n st hn' hI ih => ?_) k0 _ (by omega) ⟨Nat.le_refl _, rfl, fun k k1 _ _ => uA_n k1, (show qm_uA S.2 1 _ 1 = _ from uA_s), fun j r hj hr => ?_, fun j r _ hr => hRs j r hr, fun _ _ => ⟨rfl, fun _ _ => rfl⟩⟩
  · obtain ⟨hkn, h1, h2, g1, h3, h4, h5⟩ := hI
    refine hX _ _ ?_
    rw [g1, upd_s]
    refine pk_le _ n (fun z => ?_) (fun z => ?_)
    · obtain rfl : n = rows.length - 1 := by omega
      refine km_writes (A := sRow A (qkU (aRow A) s (rows.eraseIdx k0))) (T := T) (M := M) hs (by rw [h1]; exact h7) (by rw [h1]; exact h8) (hL.fr fun k k1 k2 => h2 k (by omega) (by omega) (by omega)) (hE.fr (by rw [h1]) fun k k1 k2 => h2 k (by omega) (by omega) (by omega)) hi ht hTM hl (fun S' f1 f2 f3 f4 hc => ?_)
      refine hk S' ⟨fun k k1 k2 => by rw [f1 k k1 k2, h1], f2, fun k k1 k2 k3 k5 kk => by rw [f3 k k5 kk, h2 k k1 k2 k3], by rw [f4, h2 5 (by decide) (by decide) (by decide)]⟩ (fun q hq => ?_) hc
      have e1 : S'.2 1 = st.2 1 := f3 1 (by decide) (by decide)
      have e2 : S'.2 2 = st.2 2 := f3 2 (by decide) (by decide)
      have e3 : S'.2 3 = st.2 3 := f3 3 (by decide) (by decide)
      rw [e1, e2, e3, g1]
      by_cases e : q = s
      · subst e
        have hw : aRow (sRow A (qkU (aRow A) q (rows.eraseIdx k0))) q = rows.eraseIdx k0 := qkU_s
        have hel : (rows.eraseIdx k0).length = rows.length - 1 := List.length_eraseIdx_of_lt hk0
        rw [hw, upd_s, hel]
        refine ⟨rfl, fun j r hj => h3 j r ?_ hj⟩
        have := (List.getElem?_eq_some_iff.mp hj).1
        omega
      · have hw : aRow (sRow A (qkU (aRow A) s (rows.eraseIdx k0))) q = aRow A q := qkU_n e
        rw [hw, upd_n e]
        obtain ⟨z1, z2⟩ := hR q hq
        refine ⟨z1, fun j r hj => ?_⟩
        have hjl := (List.getElem?_eq_some_iff.mp hj).1
        have := hrl q hq
        obtain ⟨y1, y2⟩ := h5 (12 * q + j) (by omega)
        exact (z2 j r hj).up y1 (fun c hc => y2 c hc)
    · have hg : rows[n + 1]? = some (rows[n + 1]'(by omega)) := List.getElem?_eq_getElem (by omega)
      have hrow := h4 (n + 1) _ (by omega) hg
      have eo : 12 * s + n + 1 = 12 * s + (n + 1) := by omega
      rw [m_12, nI_add, nI_1, nI_1, nI_clamp (n := 12 * s + n + 1) (by omega), nI_clamp (n := 12 * s + n) (by omega), eo]
      refine ⟨ik 72 (by omega), ik 72 (by omega), ?_⟩
      clear hX
      intro Y hY
      refine lp (P := fun i u => Y (nI i) u) 4 (fun i u => u = (st.1, qm_uA (qm_uA st.2 2 (upd (st.2 2) (12 * s + n) (st.2 2 (12 * s + (n + 1))))) 3 (kcp (4 * (12 * s + (n + 1))) (4 * (12 * s + n)) i (st.2 3)))) (fun i u hi' hI ih' => ?_) 0 _ (by omega) ?_
      · subst hI
        refine hY _ _ (pk_le 4 i (fun z' => ?_) (fun z' => ?_))
        · obtain rfl : i = 4 := by omega
          refine ih z _ ⟨by omega, h1, fun k k1 k2 k3 => ?_, ?_, fun j r hj hr => ?_, fun j r hj hr => ?_, fun q' hq' => ?_⟩
          · show qm_uA (qm_uA st.2 2 _) 3 _ k = _
            rw [uA_n k3, uA_n k2]
            exact h2 k k1 k2 k3
          · exact g1
          · by_cases e : j = n
            · subst e
              rw [List.getElem?_eraseIdx_of_ge hkn, hg] at hr
              cases hr
              exact ⟨upd_s.trans hrow.1, fun c hc => (kcp_in hc).trans (hrow.2 c hc)⟩
            · exact (h3 j r (by omega) hr).up (upd_n (by omega)) (fun c hc => kcp_out (by omega))
          · exact (h4 j r (by omega) hr).up (upd_n (by omega)) (fun c hc => kcp_out (by omega))
          · obtain ⟨y1, y2⟩ := h5 q' hq'
            exact ⟨(upd_n (by omega)).trans y1, fun c hc => (kcp_out (by omega)).trans (y2 c hc)⟩
        · have ih'' := ih' z' _ rfl
          rw [← kcp_s (by omega)] at ih''
          rw [m_4, m_4, nI_add, nI_add, nI_1, nI_clamp (n := 4 * (12 * s + (n + 1)) + i) (by omega), nI_clamp (n := 4 * (12 * s + n) + i) (by omega)]
          refine ⟨ik 288 (by omega), ik 288 (by omega), ?_⟩
          dsimp only
          rw [uA_s, uA_2]
          exact ih''
      · rw [kcp_0]
        exact Prod.ext rfl (uA_id (f := qm_uA st.2 2 (upd (st.2 2) (12 * s + n) (st.2 2 (12 * s + (n + 1))))) (k := 3)).symm
  · rw [List.getElem?_eraseIdx_of_lt hj] at hr
    exact hRs j r hr
theorem with_in {f : Nat → Int32} {x : Int32} {j c : Nat} (hc : c < 4) (hj : j < 4) : kf_with f (nI j) x c = if c = j then x else f c := by
  unfold kf_with
  rw [nI_clamp (n := j) (by omega)]
  by_cases e : c = j
  · rw [if_pos e, e, upd_s]
  · rw [if_neg e, upd_n e, pk_cpy_in (by omega) (by omega)]
    simp
theorem km_puts {A : qkA} {S : qm_S} {s T M k0 j : Nat} {m x : Int32} {r0 : qkRow} {K : Int32 → qm_S → Prop} (hs : s < 6) (h7 : S.1 7 = aQ A 14) (h8 : S.1 8 = aQ A 15) (hL : cL A S) (hE : cE A S) (hR : cR A S) (hi : iE A) (ht : iT T M A) (hTM : T ≤ 2 ^ 20 ∧ M ≤ 2 ^ 20) (hl : iL A) (hrl : ∀ q, q < 6 → (aRow A q).length ≤ 12) (has : qkAsc (aRow A s)) (hm : kf_at (aRow A s) m = some k0) (hr0 : (aRow A s)[k0]? = some r0) (hj : j < 4)
    (hk : ∀ S' : qm_S, wF A s S S' → cR (sRow A (qkU (aRow A) s ((aRow A s).set k0 (r0.1, kf_with r0.2 (nI j) x)))) S' → cE (kf_written (sRow A (qkU (aRow A) s ((aRow A s).set k0 (r0.1, kf_with r0.2 (nI j) x)))) s) S' → K (r0.2 j) S') : T_X8_puts (nI s) m (nI j) x S K := by
  obtain ⟨hn, hRs⟩ := hR s hs
  have hr12 := hrl s hs
  obtain ⟨hk0, _⟩ := at_some hm
  unfold T_X8_puts
  refine km_placeOf hs hn hr12 hRs has ?_
  rw [pl_some hm]
  generalize hrows : aRow A s = rows at hr12 has hm hn hRs hk hk0 hr0
  have hrow := hRs k0 r0 hr0
  rw [m_12, nI_add, m_4, nI_add, nI_clamp (n := 4 * (12 * s + k0) + j) (by omega), hrow.2 j hj]
  refine ⟨ik 288 (by omega), ?_⟩
  have f0 : ∀ k, k ≠ 3 → qm_uA S.2 3 (upd (S.2 3) (4 * (12 * s + k0) + j) x) k = S.2 k := fun k h => uA_n h
  refine km_writes (A := sRow A (qkU (aRow A) s (rows.set k0 (r0.1, kf_with r0.2 (nI j) x)))) (T := T) (M := M) hs h7 h8 (hL.fr fun k k1 k2 => f0 k (by omega)) (hE.fr rfl fun k k1 k2 => f0 k (by omega)) hi ht hTM hl (fun S' f1 f2 f3 f4 hc => ?_)
  refine hk S' ⟨f1, f2, fun k k1 k2 k3 k5 kk => (f3 k k5 kk).trans (f0 k k3), f4⟩ (fun q hq => ?_) hc
  have e1 : S'.2 1 = S.2 1 := f3 1 (by decide) (by decide)
  have e2 : S'.2 2 = S.2 2 := f3 2 (by decide) (by decide)
  have e3 : S'.2 3 = upd (S.2 3) (4 * (12 * s + k0) + j) x := f3 3 (by decide) (by decide)
  rw [e1, e2, e3]
  by_cases e : q = s
  · subst e
    have hw : aRow (sRow A (qkU (aRow A) q (rows.set k0 (r0.1, kf_with r0.2 (nI j) x)))) q = rows.set k0 (r0.1, kf_with r0.2 (nI j) x) := qkU_s
    rw [hw, List.length_set]
    refine ⟨hn, fun i r hi' => ?_⟩
    by_cases ei : k0 = i
    · subst ei
      rw [List.getElem?_set_self hk0] at hi'
      cases hi'
      refine ⟨hrow.1, fun c hc => ?_⟩
      show upd (S.2 3) _ x _ = kf_with r0.2 (nI j) x c
      rw [with_in hc hj]
      by_cases ec : c = j
      · rw [if_pos ec, ec, upd_s]
      · rw [if_neg ec, upd_n (by omega)]
        exact hrow.2 c hc
    · rw [List.getElem?_set_ne ei] at hi'
      exact (hRs i r hi').up rfl (fun c hc => upd_n (by omega))
  · have hw : aRow (sRow A (qkU (aRow A) s (rows.set k0 (r0.1, kf_with r0.2 (nI j) x)))) q = aRow A q := qkU_n e
    rw [hw]
    obtain ⟨z1, z2⟩ := hR q hq
    refine ⟨z1, fun i r hi' => ?_⟩
    have hil := (List.getElem?_eq_some_iff.mp hi').1
    have := hrl q hq
    exact (z2 i r hi').up rfl (fun c hc => upd_n (by omega))
