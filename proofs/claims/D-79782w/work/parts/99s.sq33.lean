/-! SQ 33: a step of the bundle done, and taken back, joined -/
set_option maxRecDepth 100000
theorem km_doesStep {A : qkA} {v : qkAns} {S : qm_S} {T M k : Nat} {f : Nat → Int32} {d : qkDone} {K : qm_S → Prop} (h : cC A v S) (hi : qkI T M A) (hTM : T ≤ 2 ^ 20 ∧ M ≤ 2 ^ 20) (hk4 : k < 4) (hst : rStp S k f) (hf : fOk f) (hd : (kf_done A f).1 = some d) (hk : ∀ S' : qm_S, cC (kf_done A f).2 v S' → dF k S S' → rUndo S' k f d → K S') : T_X8_doesStep (nI k) S K := by
  obtain ⟨s0, s1, s2, s3, s4, s5⟩ := hst
  have h1 : cC A v (S.1, qm_uA S.2 92 (upd (S.2 92) k (f 2))) := h
  unfold T_X8_doesStep
  rw [nI_clamp (n := k) (by omega), s0, s1, s2, s3, s4, s5]
  refine ⟨pk_in k 4 hk4, pk_in k 4 hk4, pk_in k 4 hk4, pk_in k 4 hk4, ?_⟩
  refine done_cases hi hf hd (fun s hs es c0 z1 z2 ed e2 hb => ?_) (fun s p j r hs es c1 hj hj2 ej hat hg hrm hfit ed e2 hb => ?_) (fun s p r hs es c0 c1 hat hg hrm ed e2 hb => ?_)
  · rw [es]
    refine ⟨fun z => absurd c0 z, fun _ => ⟨pk_in k 4 hk4, pk_in k 4 hk4, pk_in k 4 hk4, ?_⟩⟩
    refine km_adds hs h1 hi hTM z1 z2 (fun S' e0 e85 hC => ?_)
    have e92 : S'.2 92 = upd (S.2 92) k (f 2) := ((e85 92 (by decide)).2).trans us2
    have e93 : S'.2 93 = S.2 93 := ((e85 93 (by decide)).2).trans (un2 (by decide))
    rw [e2] at hk
    have hC' : cC (kf_written (kf_add1 A s (f 2) (kf_cell4 (f 2) (f 3) (f 4) (f 5))) s) v (S'.1, qm_uA S'.2 92 (upd (S'.2 92) k (kf_mark A s (f 2)))) := hC
    refine hk _ hC' ⟨e0, (e85 85 (by decide)).1, fun i h1 h2 => (un2 (by omega)).trans (((e85 i (by omega)).2).trans (un2 (by omega))), fun i hi' => ?_, fun q hq => ?_⟩ ?_
    · rw [us2, upd_n hi', e92, upd_n hi']
    · rw [un2 (show (93 : Nat) ≠ 92 by decide), e93]
    · rw [ed]
      refine ⟨es, hs, fun _ => ⟨_, rfl, rfl, ?_⟩, fun z => ?_, fun z => absurd c0 z⟩
      · rw [us2, upd_s]
      · rw [c0] at z
        exact absurd z (by decide)
  · rw [es, ej]
    have n01 : ¬ f 0 = 0 := by rw [c1]; decide
    refine ⟨fun _ => ⟨fun z => absurd c1 z, fun _ => ⟨pk_in k 4 hk4, pk_in k 4 hk4, ?_⟩⟩, fun z => absurd z n01⟩
    refine km_chg (K := fun r21 S23 => vp_in (4 * nI k) (qm_len 93) ∧ K (S23.1, qm_uA S23.2 93 (upd (S23.2 93) (4 * nI k).toNatClampNeg r21))) hs h1 hi hTM hat hg hj hj2 hfit (fun S' e0 e85 hC => ?_)
    have e92 : S'.2 92 = upd (S.2 92) k (f 2) := ((e85 92 (by decide)).2).trans us2
    have e93 : S'.2 93 = S.2 93 := ((e85 93 (by decide)).2).trans (un2 (by decide))
    rw [m_4, nI_clamp (n := 4 * k) (by omega)]
    rw [e2] at hk
    have hC' : cC (kf_chg A s p r (nI j) (f 4)) v (S'.1, qm_uA S'.2 93 (upd (S'.2 93) (4 * k) (r.2 j))) := hC
    refine ⟨ik 16 (by omega), hk _ hC' ⟨e0, (e85 85 (by decide)).1, fun i h1 h2 => (un2 (by omega)).trans (((e85 i (by omega)).2).trans (un2 (by omega))), fun i hi' => ?_, fun q hq => ?_⟩ ?_⟩
    · rw [un2 (show (92 : Nat) ≠ 93 by decide), e92, upd_n hi']
    · rw [us2, upd_n (by omega), e93]
    · rw [ed]
      refine ⟨es, hs, fun z => absurd z n01, fun _ => ⟨r, _, j, hj, ej, rfl, rfl, rfl, ?_, ?_, fun c hc hne => ?_⟩, fun _ z => absurd c1 z⟩
      · rw [un2 (show (92 : Nat) ≠ 93 by decide), e92, upd_s, hrm]
      · rw [us2, upd_s]
      · show kf_with r.2 (nI j) _ c = _
        rw [with_in hc hj, if_neg hne]
  · rw [es]
    refine ⟨fun _ => ⟨fun _ => ?_, fun z => absurd z c1⟩, fun z => absurd z c0⟩
    obtain ⟨hn, hRs⟩ := h.2.2.1 s hs
    obtain ⟨hrs, has, _⟩ := hi.1 s hs
    have hpl := (List.getElem?_eq_some_iff.mp hg).1
    have hp12 := hrs.1
    intro X hX
    refine lp (P := fun n st => X (nI n) st) 4 (fun n st => st.1 = S.1 ∧ (∀ i, i ≠ 92 → i ≠ 93 → st.2 i = S.2 i) ∧ st.2 92 = upd (S.2 92) k (f 2) ∧ (∀ c, c < n → st.2 93 (4 * k + c) = r.2 c) ∧ ∀ q, (q < 4 * k ∨ 4 * k + 4 ≤ q) → st.2 93 q = S.2 93 q) (fun n st hn4 hI ih => ?_) 0 _ (by omega) ⟨rfl, fun i a _ => un2 a, us2, fun c hc => absurd hc (by omega), fun q _ => rfl⟩
    obtain ⟨g1, g2, g3, g4, g5⟩ := hI
    have hRst : rRows (st.2 2) (st.2 3) (12 * s) (aRow A s) := by rw [g2 2 (by decide) (by decide), g2 3 (by decide) (by decide)]; exact hRs
    have hnst : st.2 1 s = nI (aRow A s).length := by rw [g2 1 (by decide) (by decide)]; exact hn
    have e88 : st.2 88 k = f 2 := by rw [g2 88 (by decide) (by decide)]; exact s2
    refine hX _ _ ?_
    rw [e88]
    refine pk_le 4 n (fun z => ?_) (fun z => ?_)
    · obtain rfl : n = 4 := by omega
      have hst : cC A v st := by
        obtain ⟨hT, hL, hR, hS, hD, hE, hB, hA⟩ := h
        exact ⟨hT.fr (by rw [g1]) (by rw [g1]) (by rw [g1]) (by rw [g1]) (by rw [g1]), hL.fr fun i _ _ => g2 i (by omega) (by omega), hR.fr (g2 1 (by decide) (by decide)) (g2 2 (by decide) (by decide)) (g2 3 (by decide) (by decide)), hS.fr (g2 4 (by decide) (by decide)) (g2 5 (by decide) (by decide)) (g2 20 (by decide) (by decide)) (g2 21 (by decide) (by decide)), hD.fr (fun i _ _ => by rw [g1]) (fun i _ _ => g2 i (by omega) (by omega)), hE.fr (by rw [g1]) (fun i _ _ => g2 i (by omega) (by omega)), hB.fr (by rw [g1]) (fun i _ _ => g2 i (by omega) (by omega)), hA.fr (fun i _ _ => by rw [g1]) (g2 77 (by decide) (by decide)) (g2 84 (by decide) (by decide))⟩
      refine km_takesOut (A := A) (T := T) (M := M) hs hst.1.2.1 hst.1.2.2.1 hst.2.1 hst.2.2.2.2.2.1 hst.2.2.1 hi.2.2.2.2.2.2 hi.2.2.2.2.2.1 hTM hi.2.1 hi.1.len has hat (fun S' hw hR' hE' => ?_)
      have hC := cC.wr (A := A) hst hw hR' hE'
      rw [← e2] at hC
      have w2 : ∀ i, 52 ≤ i → S'.2 i = st.2 i := fun i hi' => hw.2.2.1 i (by omega) (by omega) (by omega) (by omega) (by omega)
      refine hk S' hC ⟨?_, ?_, fun i h1 h2 => (w2 i (by omega)).trans (g2 i (by omega) (by omega)), fun i hi' => ?_, fun q hq => ?_⟩ ?_
      · rw [hw.1 0 (by decide) (by decide), g1]
      · rw [hw.1 85 (by decide) (by decide), g1]
      · rw [w2 92 (by decide), g3, upd_n hi']
      · rw [w2 93 (by decide)]
        exact g5 q hq
      · rw [ed]
        refine ⟨es, hs, fun z => absurd z c0, fun z => absurd z c1, fun _ _ => ⟨r, rfl, rfl, ?_, fun c hc => ?_⟩⟩
        · rw [w2 92 (by decide), g3, upd_s, hrm]
        · rw [w2 93 (by decide)]
          exact g4 c hc
    · refine km_placeOf hs hnst hrs.1 hRst has ?_
      rw [pl_some hat, m_12, nI_add, m_4, nI_add, m_4, nI_add, nI_1, nI_clamp (n := 4 * (12 * s + p) + n) (by omega), nI_clamp (n := 4 * k + n) (by omega), (hRst p r hg).2 n z]
      refine ⟨ik 288 (by omega), ik 16 (by omega), ih z _ ⟨g1, fun i a b => (un2 b).trans (g2 i a b), (un2 (by decide)).trans g3, fun c hc => ?_, fun q hq => ?_⟩⟩
      · by_cases e : c = n
        · rw [e]
          exact upd_s
        · exact Eq.trans (upd_n (by omega)) (g4 c (by omega))
      · exact Eq.trans (upd_n (by omega)) (g5 q hq)
/-- rows that are alike on the columns -/
def rEq (l l' : List qkRow) : Prop := l.length = l'.length ∧ ∀ (k : Nat) (r r' : qkRow), l[k]? = some r → l'[k]? = some r' → r.1 = r'.1 ∧ ∀ c, c < 4 → r.2 c = r'.2 c
theorem cR.eq {A : qkA} {S : qm_S} {s : Nat} {l l' : List qkRow} (h : cR (sRow A (qkU (aRow A) s l)) S) (he : rEq l l') : cR (sRow A (qkU (aRow A) s l')) S := by
  intro q hq
  obtain ⟨h1, h2⟩ := h q hq
  by_cases e : q = s
  · subst e
    have w1 : aRow (sRow A (qkU (aRow A) q l)) q = l := qkU_s
    have w2 : aRow (sRow A (qkU (aRow A) q l')) q = l' := qkU_s
    rw [w1] at h1 h2
    rw [w2, ← he.1]
    refine ⟨h1, fun k r' hr' => ?_⟩
    have hk := (List.getElem?_eq_some_iff.mp hr').1
    have hg : l[k]? = some (l[k]'(by rw [he.1]; exact hk)) := List.getElem?_eq_getElem _
    obtain ⟨e1, e2⟩ := he.2 k _ _ hg hr'
    obtain ⟨g1, g2⟩ := h2 k _ hg
    exact ⟨g1.trans e1, fun c hc => (g2 c hc).trans (e2 c hc)⟩
  · have w1 : aRow (sRow A (qkU (aRow A) s l)) q = aRow A q := qkU_n e
    have w2 : aRow (sRow A (qkU (aRow A) s l')) q = aRow A q := qkU_n e
    rw [w1] at h1 h2
    rw [w2]
    exact ⟨h1, h2⟩
theorem mid_eq {a b : List qkRow} {r r' : qkRow} (h1 : r.1 = r'.1) (h2 : ∀ c, c < 4 → r.2 c = r'.2 c) : rEq (a ++ r :: b) (a ++ r' :: b) := by
  refine ⟨by simp, fun k x y hx hy => ?_⟩
  by_cases c : k < a.length
  · rw [List.getElem?_append_left c] at hx hy
    rw [hx] at hy
    cases hy
    exact ⟨rfl, fun _ _ => rfl⟩
  · rw [List.getElem?_append_right (by omega)] at hx hy
    by_cases e : k = a.length
    · rw [e, Nat.sub_self] at hx hy
      simp at hx hy
      subst hx hy
      exact ⟨h1, h2⟩
    · obtain ⟨j, hj⟩ : ∃ j, k - a.length = j + 1 := ⟨k - a.length - 1, by omega⟩
      rw [hj, List.getElem?_cons_succ] at hx hy
      rw [hx] at hy
      cases hy
      exact ⟨rfl, fun _ _ => rfl⟩
theorem km_takesBack {A : qkA} {v : qkAns} {S : qm_S} {T M k : Nat} {f : Nat → Int32} {d : qkDone} {R : List qkRow} {K : qm_S → Prop} (h : cC A v S) (hi : qkI T M A) (hTM : T ≤ 2 ^ 20 ∧ M ≤ 2 ^ 20) (hk4 : k < 4) (hst : rStp S k f) (hf : fOk f) (hu : rUndo S k f d) (hb : rBk R (aRow A d.1) d) (hR12 : R.length ≤ 12) (hRa : qkAsc R) (hk : ∀ S' : qm_S, cC (kf_back A d) v S' → S'.1 0 = S.1 0 → (∀ j, 85 ≤ j → S'.1 j = S.1 j ∧ S'.2 j = S.2 j) → K S') : T_X8_takesBack (nI k) S K := by
  obtain ⟨s0, s1, s2, s3, s4, s5⟩ := hst
  obtain ⟨u1, u2, u3, u4, u5⟩ := hu
  obtain ⟨b1, b2', b3, b4⟩ := hb
  obtain ⟨s, x, y⟩ := d
  dsimp only at u1 u2 u3 u4 u5 b1 b2' b3
  obtain ⟨hn, hRs⟩ := h.2.2.1 s u2
  unfold T_X8_takesBack
  rw [nI_clamp (n := k) (by omega), s0, s1, u1]
  -- behind the write
  have fin : ∀ (S' : qm_S) (rw' : Nat → List qkRow), kf_back A (s, x, y) = kf_written (sRow A rw') s → wF A s S S' → cR (sRow A rw') S' → cE (kf_written (sRow A rw') s) S' → K S' := by
    intro S' rw' e hw hR' hE'
    have hC := cC.wr (A := A) h hw hR' hE'
    rw [← e] at hC
    refine hk S' hC (hw.1 0 (by decide) (by decide)) (fun j hj => ⟨hw.1 j (by omega) (by omega), hw.2.2.1 j (by omega) (by omega) (by omega) (by omega) (by omega)⟩)
  refine ⟨pk_in k 4 hk4, pk_in k 4 hk4, fun c0 => ⟨fun c1 => ?_, fun c1 => ?_⟩, fun c0 => ?_⟩
  · obtain ⟨r, ex, ey, e92, e93⟩ := u5 c0 c1
    subst ex ey
    rw [e92, m_4, nI_1, p_2, p_3, nI_clamp (n := 4 * k) (by omega), nI_clamp (n := 4 * k + 1) (by omega), nI_clamp (n := 4 * k + 2) (by omega), nI_clamp (n := 4 * k + 3) (by omega), e93 1 (by decide), e93 2 (by decide), e93 3 (by decide)]
    have e930 : S.2 93 (4 * k) = r.2 0 := e93 0 (by decide)
    rw [e930]
    have b4 : kf_lay (aRow A s) r = R := b4
    refine ⟨pk_in k 4 hk4, ik 16 (by omega), ik 16 (by omega), ik 16 (by omega), ik 16 (by omega), ?_⟩
    -- r was there ahead of the step: R is the rows with it
    have hfr : ∀ q ∈ aRow A s, ¬ q.1 = r.1 := by
      intro q hq hz
      have : ¬ (kf_lay (aRow A s) r).Pairwise (fun a b => a.1 < b.1) := by
        intro hpw
        unfold kf_lay at hpw
        rw [List.pairwise_append, List.pairwise_cons] at hpw
        have hmem : q ∈ (aRow A s).takeWhile (fun q => decide (¬ r.1 ≤ q.1)) ++ (aRow A s).dropWhile (fun q => decide (¬ r.1 ≤ q.1)) := by
          rw [List.takeWhile_append_dropWhile]
          exact hq
        rcases List.mem_append.mp hmem with hm | hm
        · have := hpw.2.2 q hm r (List.mem_cons_self ..)
          rw [hz] at this
          exact Int32.lt_irrefl this
        · have := hpw.2.1.1 q hm
          rw [hz] at this
          exact Int32.lt_irrefl this
      rw [b4] at this
      exact this hRa
    have hlen : (aRow A s).length ≤ 11 := by
      have := (lay_asc b1 hfr).2.1
      rw [b4] at this
      omega
    refine km_inserts (A := A) (T := T) (M := M) u2 h.1.2.1 h.1.2.2.1 h.2.1 h.2.2.2.2.2.1 h.2.2.1 hi.2.2.2.2.2.2 hi.2.2.2.2.2.1 hTM hi.2.1 hlen hi.1.len b1 hfr (fun S' hw hR' hE' => ?_)
    refine fin S' (qkU (aRow A) s (kf_lay (aRow A s) r)) rfl hw (hR'.eq ?_) hE'
    obtain ⟨p, hp, e, h1, h2⟩ := lay_split b1 hfr
    have e' : kf_lay (aRow A s) (r.1, kf_cell4 (r.2 0) (r.2 1) (r.2 2) (r.2 3)) = (aRow A s).take p ++ (r.1, kf_cell4 (r.2 0) (r.2 1) (r.2 2) (r.2 3)) :: (aRow A s).drop p := by
      have := lay_at (r := (r.1, kf_cell4 (r.2 0) (r.2 1) (r.2 2) (r.2 3))) h1 h2
      rw [List.take_append_drop] at this
      exact this
    rw [e, e']
    refine mid_eq rfl (fun c hc => ?_)
    have : c = 0 ∨ c = 1 ∨ c = 2 ∨ c = 3 := by omega
    rcases this with rfl | rfl | rfl | rfl <;> rfl
  · obtain ⟨r, q, j, hj, ej, ex, ey, eq, e92, e93, ecs⟩ := u4 c1
    subst ex ey
    rw [e92, s3, ej, m_4, nI_clamp (n := 4 * k) (by omega), e93]
    obtain ⟨p, hat, hg⟩ := b3 q rfl
    have hpl := (List.getElem?_eq_some_iff.mp hg).1
    refine ⟨pk_in k 4 hk4, pk_in k 4 hk4, ik 16 (by omega), ?_⟩
    rw [eq] at hat
    refine km_puts (A := A) (T := T) (M := M) (x := r.2 j) u2 h.1.2.1 h.1.2.2.1 h.2.1 h.2.2.2.2.2.1 h.2.2.1 hi.2.2.2.2.2.2 hi.2.2.2.2.2.1 hTM hi.2.1 hi.1.len b1 hat hg hj (fun S' hw hR' hE' => ?_)
    obtain ⟨e, h1, h2, h3⟩ := split_at b1 hg
    have hlay : kf_lay ((aRow A s).eraseIdx p) r = (aRow A s).take p ++ r :: (aRow A s).drop (p + 1) := by
      rw [h3]
      refine lay_at (fun z hz => ?_) (fun z hz => ?_)
      · rw [← eq]; exact h1 z hz
      · rw [← eq]; exact h2 z hz
    have hbk : kf_back A (s, some r, some q) = kf_written (sRow A (qkU (aRow A) s (kf_lay ((aRow A s).eraseIdx p) r))) s := by
      have hun : kf_undo A (s, some r, some q) = sRow A (qkU (aRow A) s ((aRow A s).eraseIdx p)) := by
        show sRow A (qkU (aRow A) s ((aRow A s).eraseIdx ((kf_at (aRow A s) q.1).getD 0))) = _
        rw [eq, hat]
        rfl
      unfold kf_back
      rw [hun]
      show kf_written (sRow (sRow A (qkU (aRow A) s ((aRow A s).eraseIdx p))) (qkU (qkU (aRow A) s ((aRow A s).eraseIdx p)) s (kf_lay (qkU (aRow A) s ((aRow A s).eraseIdx p) s) r))) s = _
      rw [qkU_s]
      have hu2 : qkU (qkU (aRow A) s ((aRow A s).eraseIdx p)) s (kf_lay ((aRow A s).eraseIdx p) r) = qkU (aRow A) s (kf_lay ((aRow A s).eraseIdx p) r) := by
        funext i
        by_cases z : i = s
        · rw [z, qkU_s, qkU_s]
        · rw [qkU_n z, qkU_n z, qkU_n z]
      rw [hu2]
    refine fin S' _ hbk hw (hR'.eq ?_) hE'
    rw [hlay, set_split hpl]
    refine mid_eq eq (fun c hc => ?_)
    show kf_with q.2 (nI j) (r.2 j) c = r.2 c
    rw [with_in hc hj]
    by_cases z : c = j
    · rw [if_pos z, z]
    · rw [if_neg z]
      exact ecs c hc z
  · obtain ⟨r, ex, ey, e92⟩ := u3 c0
    subst ex ey
    rw [e92]
    obtain ⟨p, hat, hg⟩ := b3 r rfl
    refine ⟨pk_in k 4 hk4, ?_⟩
    refine km_takesOut (A := A) (T := T) (M := M) u2 h.1.2.1 h.1.2.2.1 h.2.1 h.2.2.2.2.2.1 h.2.2.1 hi.2.2.2.2.2.2 hi.2.2.2.2.2.1 hTM hi.2.1 hi.1.len b1 hat (fun S' hw hR' hE' => ?_)
    have hbk : kf_back A (s, none, some r) = kf_written (sRow A (qkU (aRow A) s ((aRow A s).eraseIdx p))) s := by
      show kf_written (sRow A (qkU (aRow A) s ((aRow A s).eraseIdx ((kf_at (aRow A s) r.1).getD 0)))) s = _
      rw [hat]
      rfl
    exact fin S' _ hbk hw hR' hE'
