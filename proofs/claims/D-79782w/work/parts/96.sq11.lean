/-! SQ 11: rows that come for a seat -/
set_option maxRecDepth 100000
/-- cells of one array copied to another -/
def kcq (a b n : Nat) (g h : Nat → Int32) : Nat → Int32 := fun j => if b ≤ j ∧ j < b + n then g (a + (j - b)) else h j
theorem kcq_0 {a b : Nat} {g h : Nat → Int32} : kcq a b 0 g h = h := by
  funext j
  unfold kcq
  rw [if_neg (by omega)]
theorem kcq_s {a b n : Nat} {g h : Nat → Int32} : upd (kcq a b n g h) (b + n) (g (a + n)) = kcq a b (n + 1) g h := by
  funext j
  by_cases e : j = b + n
  · subst e
    rw [upd_s]
    unfold kcq
    rw [if_pos (by omega)]
    congr 1
    omega
  · rw [upd_n e]
    unfold kcq
    by_cases c : b ≤ j ∧ j < b + n
    · rw [if_pos c, if_pos (by omega)]
    · rw [if_neg c, if_neg (by omega)]
theorem kcq_in {a b n k : Nat} {g h : Nat → Int32} (hk : k < n) : kcq a b n g h (b + k) = g (a + k) := by
  unfold kcq
  rw [if_pos (by omega)]
  congr 1
  omega
theorem kcq_out {a b n j : Nat} {g h : Nat → Int32} (hj : j < b ∨ b + n ≤ j) : kcq a b n g h j = h j := by
  unfold kcq
  rw [if_neg (by omega)]
/-- what rows that come for a seat leave as it is -/
def sF (i : Nat) (S S' : qm_S) : Prop := (∀ k, k ≠ 57 → k ≠ 58 → k ≠ 59 → S'.2 k = S.2 k) ∧ (∀ j, j ≠ i → S'.2 57 j = S.2 57 j) ∧ ∀ q, (q < 12 * i ∨ 12 * i + 12 ≤ q) → S'.2 58 q = S.2 58 q ∧ ∀ c, c < 4 → S'.2 59 (4 * q + c) = S.2 59 (4 * q + c)
theorem sF.rf {i : Nat} {S : qm_S} : sF i S S := ⟨fun _ _ _ _ => rfl, fun _ _ => rfl, fun _ _ => ⟨rfl, fun _ _ => rfl⟩⟩
theorem sF.tr {i : Nat} {S S' S'' : qm_S} (h : sF i S S') (k : sF i S' S'') : sF i S S'' := ⟨fun j a b c => (k.1 j a b c).trans (h.1 j a b c), fun j a => (k.2.1 j a).trans (h.2.1 j a), fun q a => ⟨(k.2.2 q a).1.trans (h.2.2 q a).1, fun c hc => ((k.2.2 q a).2 c hc).trans ((h.2.2 q a).2 c hc)⟩⟩
theorem rSeat.fr {i j : Nat} {S S' : qm_S} {raw : List qkRow} (h : rSeat S j raw) (hf : sF i S S') (hne : j ≠ i) : rSeat S' j raw := by
  obtain ⟨h1, h2, h3⟩ := h
  refine ⟨(hf.2.1 j hne).trans h1, h2, fun k r hr => ?_⟩
  have hk := (List.getElem?_eq_some_iff.mp hr).1
  obtain ⟨z1, z2⟩ := hf.2.2 (12 * j + k) (by omega)
  exact (h3 k r hr).up z1 z2
theorem rSeat.eq {j : Nat} {S S' : qm_S} {raw : List qkRow} (h : rSeat S j raw) (h1 : S'.2 57 = S.2 57) (h2 : S'.2 58 = S.2 58) (h3 : S'.2 59 = S.2 59) : rSeat S' j raw := by
  unfold rSeat at h ⊢
  rw [h1, h2, h3]
  exact h
theorem opl_s {l : List qkRow} {r q : qkRow} {k : Nat} (hq : l[k]? = some q) : kf_opl l r (k + 1) = if ¬ q.1 ≤ r.1 then kf_opl l r k else k + 1 := by
  show (if (l[k]?.any (fun q => decide (¬ q.1 ≤ r.1))) = true then kf_opl l r k else k + 1) = _
  rw [hq]
  by_cases c : q.1 ≤ r.1
  · rw [if_neg (fun w : ¬ q.1 ≤ r.1 => w c), if_neg]
    show ¬ decide (¬ q.1 ≤ r.1) = true
    rw [decide_eq_true_eq]
    exact fun w => w c
  · rw [if_pos c, if_pos]
    exact decide_eq_true c
theorem km_lays {S : qm_S} {i src row : Nat} {raw : List qkRow} {r : qkRow} {K : qm_S → Prop} (hi3 : i < 3) (hs : S.2 23 i = nI src) (h6 : src < 6) (hr12 : row < 12) (hrow : rRow (S.2 2) (S.2 3) (12 * src + row) r) (hraw : rSeat S i raw) (h11 : raw.length ≤ 11) (hk : ∀ S' : qm_S, S'.1 = S.1 → sF i S S' → rSeat S' i (kf_oins raw r) → K S') : T_X8_lays (nI i) (nI row) S K := by
  obtain ⟨hn, _, hRs⟩ := hraw
  unfold T_X8_lays
  rw [nI_clamp (n := i) (by omega), hs, hn]
  refine ⟨pk_in i 3 hi3, pk_in i 3 hi3, ?_⟩
  intro X hX
  refine lpd (P := fun p st => X (nI p) st) (fun p st => p ≤ raw.length ∧ st.1 = S.1 ∧ (∀ k, k ≠ 58 → k ≠ 59 → st.2 k = S.2 k) ∧ (∀ j q, j < p → raw[j]? = some q → rRow (st.2 58) (st.2 59) (12 * i + j) q) ∧ (∀ j q, p ≤ j → raw[j]? = some q → rRow (st.2 58) (st.2 59) (12 * i + j + 1) q) ∧ (∀ q, (q < 12 * i ∨ 12 * i + 12 ≤ q) → st.2 58 q = S.2 58 q ∧ ∀ c, c < 4 → st.2 59 (4 * q + c) = S.2 59 (4 * q + c)) ∧ kf_opl raw r raw.length = kf_opl raw r p) (fun p st hI ih => ?_) raw.length S ⟨Nat.le_refl _, rfl, fun _ _ _ => rfl, fun j r _ hr => hRs j r hr, fun j r hj hr => absurd (List.getElem?_eq_some_iff.mp hr).1 (by omega), fun _ _ => ⟨rfl, fun _ _ => rfl⟩, rfl⟩
  obtain ⟨hp, h1, h2, h3, h4, h5, h6'⟩ := hI
  have s2 : st.2 2 = S.2 2 := h2 2 (by decide) (by decide)
  have s3 : st.2 3 = S.2 3 := h2 3 (by decide) (by decide)
  have s57 : st.2 57 = S.2 57 := h2 57 (by decide) (by decide)
  refine hX _ _ ?_
  intro J hJ
  have hJ' : kf_opl raw r p = p → J := by
    intro hop
    have hoi : kf_oins raw r = raw.take p ++ r :: raw.drop p := by
      unfold kf_oins
      rw [h6', hop]
    refine hJ ?_
    rw [m_12, nI_add, m_12, nI_add, s2, nI_clamp (n := 12 * src + row) (by omega), nI_clamp (n := 12 * i + p) (by omega), hrow.1]
    refine ⟨ik 72 (by omega), ik 36 (by omega), ?_⟩
    intro Y hY
    refine lp (P := fun n u => Y (nI n) u) 4 (fun n u => u = (st.1, qm_uA (qm_uA st.2 58 (upd (st.2 58) (12 * i + p) r.1)) 59 (kcq (4 * (12 * src + row)) (4 * (12 * i + p)) n (S.2 3) (st.2 59)))) (fun n u hn' hI ih' => ?_) 0 _ (by omega) ?_
    · subst hI
      refine hY _ _ (pk_le 4 n (fun z' => ?_) (fun z' => ?_))
      · obtain rfl : n = 4 := by omega
        refine hk _ h1 ⟨fun k a b c => ?_, fun j hj => ?_, fun q hq => ?_⟩ ⟨?_, ?_, ?_⟩
        · show qm_uA (qm_uA (qm_uA st.2 58 _) 59 _) 57 _ k = _
          rw [uA_n a, uA_n c, uA_n b]
          exact h2 k b c
        · show upd (st.2 57) i _ j = _
          rw [upd_n hj, s57]
        · obtain ⟨g1, g2⟩ := h5 q hq
          exact ⟨Eq.trans (upd_n (by omega)) g1, fun c hc => Eq.trans (kcq_out (by omega)) (g2 c hc)⟩
        · show upd (st.2 57) i (st.2 57 i + 1) i = _
          rw [upd_s, s57, hn, nI_1, kf_oins_len]
        · rw [kf_oins_len]
          omega
        · rw [hoi]
          refine rRows_ins hp (fun j q hj hq => ?_) (fun j q hj hq => ?_) ⟨upd_s, fun c hc => ?_⟩
          · exact (h3 j q hj hq).up (upd_n (by omega)) (fun c hc => kcq_out (by omega))
          · exact (h4 j q hj hq).up (upd_n (by omega)) (fun c hc => kcq_out (by omega))
          · exact Eq.trans (kcq_in hc) (hrow.2 c hc)
      · have ih'' := ih' z' _ rfl
        rw [← kcq_s] at ih''
        rw [m_4, nI_add, m_4, nI_add, nI_1, nI_clamp (n := 4 * (12 * src + row) + n) (by omega), nI_clamp (n := 4 * (12 * i + p) + n) (by omega)]
        refine ⟨ik 288 (by omega), ik 144 (by omega), ?_⟩
        dsimp only
        rw [uA_s, uA_2, uA_n (show (3 : Nat) ≠ 59 by decide), uA_n (show (3 : Nat) ≠ 58 by decide), s3]
        exact ih''
    · rw [kcq_0]
      exact Prod.ext rfl (uA_id (f := qm_uA st.2 58 (upd (st.2 58) (12 * i + p) r.1)) (k := 59)).symm
  refine pk_le p 0 (fun z => hJ' ?_) (fun z => ?_)
  · obtain rfl : p = 0 := by omega
    rfl
  have hg : raw[p - 1]? = some (raw[p - 1]'(by omega)) := List.getElem?_eq_getElem (by omega)
  have hprev := h3 (p - 1) _ (by omega) hg
  have eo : 12 * i + p - 1 = 12 * i + (p - 1) := by omega
  have hop := opl_s (r := r) hg
  rw [show p - 1 + 1 = p by omega] at hop
  rw [m_12, nI_add, m_12, nI_add, s_1 (by omega), s2, nI_clamp (n := 12 * src + row) (by omega), nI_clamp (n := 12 * i + p - 1) (by omega), nI_clamp (n := 12 * i + p) (by omega), eo, hrow.1, hprev.1]
  refine ⟨ik 36 (by omega), ik 72 (by omega), fun q => hJ' ?_, fun q => ⟨ik 36 (by omega), ?_⟩⟩
  · rw [hop, if_neg (fun w => w q)]
  clear hJ hJ' hX
  intro Y hY
  refine lp (P := fun n u => Y (nI n) u) 4 (fun n u => u = (st.1, qm_uA (qm_uA st.2 58 (upd (st.2 58) (12 * i + p) (raw[p - 1]'(by omega)).1)) 59 (kcp (4 * (12 * i + (p - 1))) (4 * (12 * i + p)) n (st.2 59)))) (fun n u hn' hI ih' => ?_) 0 _ (by omega) ?_
  · subst hI
    refine hY _ _ (pk_le 4 n (fun z' => ?_) (fun z' => ?_))
    · obtain rfl : n = 4 := by omega
      rw [s_m (by omega)]
      refine ih (p - 1) _ (by omega) ⟨by omega, h1, fun k k2 k3 => ?_, fun j r' hj hr => ?_, fun j r' hj hr => ?_, fun q' hq' => ?_, ?_⟩
      · show qm_uA (qm_uA st.2 58 _) 59 _ k = _
        rw [uA_n k3, uA_n k2]
        exact h2 k k2 k3
      · exact (h3 j r' (by omega) hr).up (upd_n (by omega)) (fun c hc => kcp_out (by omega))
      · by_cases e : j = p - 1
        · subst e
          rw [hg] at hr
          cases hr
          rw [show 12 * i + (p - 1) + 1 = 12 * i + p by omega]
          exact ⟨upd_s, fun c hc => (kcp_in hc).trans (hprev.2 c hc)⟩
        · exact (h4 j r' (by omega) hr).up (upd_n (by omega)) (fun c hc => kcp_out (by omega))
      · obtain ⟨g1, g2⟩ := h5 q' hq'
        exact ⟨(upd_n (by omega)).trans g1, fun c hc => (kcp_out (by omega)).trans (g2 c hc)⟩
      · rw [h6', hop, if_pos q]
    · have ih'' := ih' z' _ rfl
      rw [← kcp_s (by omega)] at ih''
      rw [m_4, m_4, nI_add, nI_add, nI_1, nI_clamp (n := 4 * (12 * i + (p - 1)) + n) (by omega), nI_clamp (n := 4 * (12 * i + p) + n) (by omega)]
      refine ⟨ik 144 (by omega), ik 144 (by omega), ?_⟩
      dsimp only
      rw [uA_s, uA_2]
      exact ih''
  · rw [kcp_0]
    exact Prod.ext rfl (uA_id (f := qm_uA st.2 58 (upd (st.2 58) (12 * i + p) (raw[p - 1]'(by omega)).1)) (k := 59)).symm
theorem km_comes {A : qkA} {S : qm_S} {T M i src j0 j1 cap : Nat} {col : Int32} {ks : List Int32} {raw : List qkRow} {K : qm_S → Prop} (h : qkB A S) (hi : qkI T M A) (hs : (aSeat A)[i]? = some (nI src)) (h6 : src < 6) (hcol : col = -1 ∨ ((∃ q, q < 4 ∧ col = nI q) ∧ rKeys S ks ∧ j0 ≤ j1 ∧ j1 ≤ ks.length ∧ ks.length ≤ 12)) (hcap : aLn A (src / 2) 4 = nI cap) (hcap2 : cap ≤ 12) (hraw : rSeat S i raw)
    (h12 : raw.length + ((kf_sel A src (kf_sent A (nI i) src) col ((ks.drop j0).take (j1 - j0))).take cap).length ≤ 12)
    (hk : ∀ S' : qm_S, (∀ k, k ≠ 55 → k ≠ 62 → k ≠ 80 → k ≠ 82 → S'.1 k = S.1 k) → sF i S S' → rSeat S' i (((kf_sel A src (kf_sent A (nI i) src) col ((ks.drop j0).take (j1 - j0))).take cap).foldl kf_oins raw) → S'.1 62 = b2 (decide (cap < (kf_sel A src (kf_sent A (nI i) src) col ((ks.drop j0).take (j1 - j0))).length)) → S'.1 82 = S.1 82 + nI ((kf_sel A src (kf_sent A (nI i) src) col ((ks.drop j0).take (j1 - j0))).take cap).length → S'.1 80 = S.1 80 + nI ((kf_sel A src (kf_sent A (nI i) src) col ((ks.drop j0).take (j1 - j0))).take cap).length * kf_freight (src / 2) → S'.1 55 = S.1 55 + nI ((kf_sel A src (kf_sent A (nI i) src) col ((ks.drop j0).take (j1 - j0))).take cap).length * kf_freight (src / 2) → K S') : T_X8_comes (nI i) col (nI j0) (nI j1) S K := by
  obtain ⟨hT, hL, hR, hS, hD, hE, hB⟩ := h
  have iD' := hi.2.2.2.1
  have hil := (List.getElem?_eq_some_iff.mp hs).1
  have h3 := iD'.1.1
  have hrl := hi.1.len src h6
  obtain ⟨hn, hRs⟩ := hR src h6
  have h23 := hD.1.2 i _ hs
  obtain ⟨_, _, _, h12c, _, _, _, _, _, _, h19⟩ := hL (src / 2) (by omega)
  generalize hKS : (ks.drop j0).take (j1 - j0) = KS at h12 hk
  generalize hP : (fun r : qkRow => kf_is col KS r && kf_all (kf_sent A (nI i) src) r) = P
  have hsel : kf_sel A src (kf_sent A (nI i) src) col KS = (aRow A src).filter P := by rw [← hP]; rfl
  rw [hsel] at h12 hk
  unfold T_X8_comes
  rw [nI_clamp (n := i) (by omega), h23, fm_half h6, nI_clamp (n := src) (by omega), nI_clamp (n := src / 2) (by omega)]
  refine ⟨pk_in i 3 (by omega), ?_⟩
  intro X hX
  refine lp (P := fun n (p : Int32 × qm_S) => X p.1 (nI n) p.2) (aRow A src).length (fun n p => p.1 = nI ((((aRow A src).take n).filter P).take cap).length ∧ (∀ k, k ≠ 62 → p.2.1 k = S.1 k) ∧ p.2.1 62 = b2 (decide (cap < (((aRow A src).take n).filter P).length)) ∧ sF i S p.2 ∧ rSeat p.2 i (((((aRow A src).take n).filter P).take cap).foldl kf_oins raw)) (fun n p hn' hI ih => ?_) 0 (0, _) (Nat.zero_le _) ⟨by simp; rfl, fun k hk => upd_n hk, by simp; exact upd_s.trans (b2_f rfl).symm, sF.rf, by simp; exact hraw⟩
  obtain ⟨x, st⟩ := p
  obtain ⟨e1, f1, f62, fF, fR⟩ := hI
  dsimp only at e1 f1 f62 fF fR ⊢
  subst e1
  have s1 : st.2 1 src = nI (aRow A src).length := by rw [fF.1 1 (by decide) (by decide) (by decide)]; exact hn
  have s12 : st.2 12 (src / 2) = nI cap := by rw [fF.1 12 (by decide) (by decide) (by decide), h12c]; exact hcap
  have s19 : st.2 19 (src / 2) = kf_freight (src / 2) := by rw [fF.1 19 (by decide) (by decide) (by decide)]; exact h19
  have s2 : st.2 2 = S.2 2 := fF.1 2 (by decide) (by decide) (by decide)
  have s3 : st.2 3 = S.2 3 := fF.1 3 (by decide) (by decide) (by decide)
  refine hX _ _ _ ?_
  rw [s1, s12, s19]
  refine ⟨pk_in src 6 h6, pk_le _ n (fun z => ?_) (fun z => ?_)⟩
  · obtain rfl : n = (aRow A src).length := by omega
    rw [List.take_length] at f62 fR ⊢
    refine ⟨pk_in (src / 2) 3 (by omega), ?_⟩
    unfold T_X8_pays
    refine hk _ (fun k a b c d => ?_) fF fR ?_ ?_ ?_ ?_
    · show upd (upd (upd st.1 82 _) 80 _) 55 _ k = _
      rw [upd_n a, upd_n c, upd_n d]
      exact f1 k b
    · exact f62
    · show st.1 82 + _ = _
      rw [f1 82 (by decide)]
    · show st.1 80 + _ = _
      rw [f1 80 (by decide)]
    · show st.1 55 + _ = _
      rw [f1 55 (by decide)]
  · have hg : (aRow A src)[n]? = some (aRow A src)[n] := List.getElem?_eq_getElem z
    generalize hrr : (aRow A src)[n] = r at hg
    have htk : (aRow A src).take (n + 1) = (aRow A src).take n ++ [r] := by rw [take_s z, hrr]
    have hrow : rRow (st.2 2) (st.2 3) (12 * src + n) r := by rw [s2, s3]; exact hRs n r hg
    have no : P r = false → X (nI ((((aRow A src).take n).filter P).take cap).length) (nI n + 1) st := by
      intro hp
      rw [nI_1]
      have hfl : ((aRow A src).take (n + 1)).filter P = ((aRow A src).take n).filter P := by
        rw [htk, List.filter_append, List.filter_cons_of_neg (by rw [hp]; simp)]
        simp
      refine ih z (_, st) ?_
      rw [hfl]
      exact ⟨rfl, f1, f62, fF, fR⟩
    have yes : P r = true → (vp_in (nI (src / 2)) (qm_len 12) ∧ (¬ nI ((((aRow A src).take n).filter P).take cap).length = nI cap → T_X8_lays (nI i) (nI n) st (fun S16 => X (nI ((((aRow A src).take n).filter P).take cap).length + 1) (nI n + 1) S16)) ∧ (nI ((((aRow A src).take n).filter P).take cap).length = nI cap → X (nI ((((aRow A src).take n).filter P).take cap).length) (nI n + 1) (upd st.1 62 1, st.2))) := by
      intro hp
      have hfl : ((aRow A src).take (n + 1)).filter P = ((aRow A src).take n).filter P ++ [r] := by
        rw [htk, List.filter_append, List.filter_cons_of_pos hp]
        simp
      have hle : ((((aRow A src).take (n + 1)).filter P).take cap).length ≤ (((aRow A src).filter P).take cap).length := by
        have := ((List.take_sublist (n + 1) (aRow A src)).filter P).length_le
        rw [List.length_take, List.length_take]
        omega
      have ih' := ih z
      rw [hfl] at ih' hle
      generalize hL' : ((aRow A src).take n).filter P = L at f62 fR ih' hle ⊢
      refine ⟨pk_in (src / 2) 3 (by omega), pj_eq _ cap (fun q => ?_) (fun q => ?_) rfl rfl (by rw [List.length_take]; omega)⟩
      · have hlt : L.length < cap := by
          rw [List.length_take] at q
          omega
        have t1 : L.take cap = L := List.take_of_length_le (by omega)
        have t2 : (L ++ [r]).take cap = L ++ [r] := List.take_of_length_le (by rw [List.length_append]; simp; omega)
        rw [t1] at fR ⊢
        rw [t2] at ih' hle
        rw [List.length_append] at hle
        simp only [List.length_cons, List.length_nil] at hle
        refine km_lays (by omega) (by rw [fF.1 23 (by decide) (by decide) (by decide)]; exact h23) h6 (by omega) hrow fR ?_ (fun S' g1 gF gR => ?_)
        · rw [kf_order_len]
          omega
        · rw [nI_1, nI_1]
          refine ih' (_, S') ⟨?_, fun k hk => by rw [g1]; exact f1 k hk, ?_, fF.tr gF, ?_⟩
          · rw [List.length_append]
            rfl
          · show S'.1 62 = _
            rw [g1, f62]
            congr 1
            rw [decide_eq_decide, List.length_append]
            simp only [List.length_cons, List.length_nil]
            omega
          · rw [List.foldl_append]
            exact gR
      · have hge : cap ≤ L.length := by
          rw [List.length_take] at q
          omega
        have t2 : (L ++ [r]).take cap = L.take cap := List.take_append_of_le_length hge
        rw [t2] at ih'
        rw [nI_1]
        refine ih' (_, _) ⟨rfl, fun k hk => (upd_n hk).trans (f1 k hk), ?_, fF, fR⟩
        show upd st.1 62 1 62 = _
        rw [upd_s]
        refine (b2_t (decide_eq_true ?_)).symm
        rw [List.length_append]
        simp only [List.length_cons, List.length_nil]
        omega
    refine km_holdSent (A := A) (cD.fr hD (fun k a b => f1 k (by omega)) (fun k a b => fF.1 k (by omega) (by omega) (by omega))) iD' hs h6 (by omega) hrow ?_
    refine bz (fun q => no (by rw [← hP]; show (kf_is col KS r && kf_all (kf_sent A (nI i) src) r) = false; rw [q, Bool.and_false])) (fun q => ?_)
    rcases hcol with hc | ⟨⟨c, hc4, hc⟩, hks, hj, hj1, hk12⟩
    · refine ⟨fun _ => yes ?_, fun w => absurd hc w⟩
      rw [← hP]
      show (kf_is col KS r && kf_all (kf_sent A (nI i) src) r) = true
      rw [q]
      unfold kf_is
      rw [decide_eq_true hc]
      rfl
    · refine ⟨fun w => absurd (hc.symm.trans w) (nI_nm1 (by omega)), fun _ => ?_⟩
      rw [hc, m_12, nI_add, m_4, nI_add, nI_clamp (n := 4 * (12 * src + n) + c) (by omega), hrow.2 c hc4]
      refine ⟨ik 288 (by omega), km_isKey (ks := ks) (fun k x hk' => ?_) hj hj1 hk12 ?_⟩
      · rw [fF.1 64 (by decide) (by decide) (by decide)]
        exact hks k x hk'
      · have hPr : P r = KS.any (fun k => decide (r.2 c = k)) := by
          rw [← hP]
          show (kf_is col KS r && kf_all (kf_sent A (nI i) src) r) = _
          rw [q, Bool.and_true]
          unfold kf_is
          rw [hc, decide_eq_false (nI_nm1 (by omega)), Bool.false_or, nI_clamp (n := c) (by omega)]
        rw [hKS, ← hPr]
        exact bz (fun w => no w) (fun w => yes w)
