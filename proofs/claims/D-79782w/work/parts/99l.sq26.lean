/-! SQ 26: the answer made of rows, on both sides -/
set_option maxRecDepth 100000
/-- rows as they come to the matching -/
def rSrc (A : qkA) (S : qm_S) (here s : Nat) (raw : List qkRow) : Prop := (here = 1 ∧ rSeat S s raw) ∨ (here = 0 ∧ ∃ src, src < 6 ∧ (aSeat A)[s]? = some (nI src) ∧ S.2 1 src = nI raw.length ∧ raw.length ≤ 12 ∧ rRows (S.2 2) (S.2 3) (12 * src) raw)
theorem rSrc.len {A : qkA} {S : qm_S} {here s : Nat} {raw : List qkRow} (h : rSrc A S here s raw) : raw.length ≤ 12 := by
  rcases h with ⟨_, h⟩ | ⟨_, _, _, _, _, h, _⟩
  · exact h.2.1
  · exact h
theorem km_rows {A : qkA} {S : qm_S} {here n : Nat} {raw : Nat → List qkRow} {P : Prop} {XB : Int32 → qm_S → Prop} (hD : cD A S) (hi : iD A) (hn : (aSeat A).length = n) (hraw : ∀ s, s < n → rSrc A S here s (raw s))
    (hend : ∀ S' : qm_S, S'.1 = S.1 → (∀ k, k ≠ 65 → k ≠ 66 → k ≠ 67 → S'.2 k = S.2 k) → (∀ s, s < n → rM S' s ((raw s).filter (fun r => kf_all (kf_own A (nI s)) r)) ∧ S'.2 67 s = 0) → XB (b2 ((List.range n).all (fun s => decide (0 < ((raw s).filter (fun r => kf_all (kf_own A (nI s)) r)).length)))) S') :
    ∀ X1 : Int32 → Int32 → qm_S → Prop, (∀ (x2 x3 : Int32) (S4 : qm_S), (((S4.1 22) ≤ x3 → XB x2 S4) ∧ (¬ (S4.1 22) ≤ x3 → vp_in x3 (qm_len 65) ∧ vp_in x3 (qm_len 67) ∧ ∀ X34 : Int32 → qm_S → Prop, (∀ (x35 : Int32) (S36 : qm_S), (((nI here = 0 → vp_in x3 (qm_len 23) ∧ vp_in (S36.2 23 x3.toNatClampNeg) (qm_len 1)) ∧ (¬ nI here = 0 → vp_in x3 (qm_len 57))) ∧ (((if nI here = 0 then S36.2 1 (S36.2 23 x3.toNatClampNeg).toNatClampNeg else S36.2 57 x3.toNatClampNeg)) ≤ x35 → (x2 = 0 → X1 0 (x3 + 1) S36) ∧ (¬ x2 = 0 → ((S36.2 65 x3.toNatClampNeg) ≤ 0 → X1 0 (x3 + 1) S36) ∧ (¬ (S36.2 65 x3.toNatClampNeg) ≤ 0 → X1 1 (x3 + 1) S36))) ∧ (¬ ((if nI here = 0 then S36.2 1 (S36.2 23 x3.toNatClampNeg).toNatClampNeg else S36.2 57 x3.toNatClampNeg)) ≤ x35 → T_X8_laysRow x3 (nI here) x35 S36 (fun S45 => X34 (x35 + 1) S45))) → X34 x35 S36) → X34 0 ((S4.1, qm_uA (qm_uA S4.2 65 (upd (S4.2 65) x3.toNatClampNeg 0)) 67 (upd (S4.2 67) x3.toNatClampNeg 0))))) → X1 x2 x3 S4) → X1 1 0 S := by
  have hn3 : n ≤ 3 := by rw [← hn]; exact hi.1.1
  intro X hX
  refine lp (P := fun s (p : Int32 × qm_S) => X p.1 (nI s) p.2) n (fun s p => p.1 = b2 ((List.range s).all (fun s => decide (0 < ((raw s).filter (fun r => kf_all (kf_own A (nI s)) r)).length))) ∧ p.2.1 = S.1 ∧ (∀ k, k ≠ 65 → k ≠ 66 → k ≠ 67 → p.2.2 k = S.2 k) ∧ ∀ j, j < s → rM p.2 j ((raw j).filter (fun r => kf_all (kf_own A (nI j)) r)) ∧ p.2.2 67 j = 0) (fun s p hs hI ih => ?_) 0 (1, S) (Nat.zero_le _) ⟨rfl, rfl, fun _ _ _ _ => rfl, fun j hj => absurd hj (by omega)⟩
  obtain ⟨x, st⟩ := p
  obtain ⟨h1, h2, h3, h4⟩ := hI
  dsimp only at h1 h2 h3 h4 ⊢
  subst h1
  refine hX _ _ _ ?_
  rw [h2, hD.1.1, hn]
  refine pk_le n s (fun z => ?_) (fun z => ?_)
  · obtain rfl : s = n := by omega
    exact hend st h2 h3 h4
  · have ih := ih z
    rw [nI_clamp (n := s) (by omega)]
    refine ⟨pk_in s 3 (by omega), pk_in s 3 (by omega), ?_⟩
    clear hX
    intro Y hY
    have hs' := hraw s z
    have hl12 := hs'.len
    refine lp (P := fun k u => Y (nI k) u) (raw s).length (fun k u => u.1 = S.1 ∧ (∀ k, k ≠ 65 → k ≠ 66 → k ≠ 67 → u.2 k = S.2 k) ∧ (∀ j, j < s → rM u j ((raw j).filter (fun r => kf_all (kf_own A (nI j)) r)) ∧ u.2 67 j = 0) ∧ u.2 67 s = 0 ∧ rM u s (((raw s).take k).filter (fun r => kf_all (kf_own A (nI s)) r))) (fun k u hk hI ihk => ?_) 0 _ (Nat.zero_le _) ⟨rfl, fun k a b c => (un2 c).trans ((uA_n a).trans (h3 k a b c)), fun j hj => ?_, upd_s, ?_⟩
    · obtain ⟨g1, g2, g3, g4, g5⟩ := hI
      have hDu : cD A u := hD.fr (fun k _ _ => by rw [g1]) (fun k _ _ => g2 k (by omega) (by omega) (by omega))
      refine hY _ _ ?_
      -- how many there are
      have hlen : (if nI here = 0 then u.2 1 (u.2 23 s).toNatClampNeg else u.2 57 s) = nI (raw s).length ∧ ((nI here = 0 → vp_in (nI s) (qm_len 23) ∧ vp_in (u.2 23 s) (qm_len 1)) ∧ (¬ nI here = 0 → vp_in (nI s) (qm_len 57))) := by
        rcases hs' with ⟨rfl, w⟩ | ⟨rfl, src, w1, w2, w3, w4, w5⟩
        · have n10 : ¬ nI 1 = (0 : Int32) := by decide
          rw [if_neg n10, g2 57 (by decide) (by decide) (by decide)]
          exact ⟨w.1, fun q => absurd q n10, fun _ => pk_in s 3 (by omega)⟩
        · have n00 : nI 0 = (0 : Int32) := rfl
          rw [if_pos n00, hDu.1.2 s _ w2, nI_clamp (n := src) (by omega), g2 1 (by decide) (by decide) (by decide)]
          exact ⟨w3, fun _ => ⟨pk_in s 3 (by omega), pk_in src 6 w1⟩, fun q => absurd n00 q⟩
      rw [hlen.1]
      refine ⟨hlen.2, pk_le (raw s).length k (fun w => ?_) (fun w => ?_)⟩
      · obtain rfl : k = (raw s).length := by omega
        rw [List.take_length] at g5
        rw [g5.1, nI_1]
        have hr : ∀ b, b = decide (0 < ((raw s).filter (fun r => kf_all (kf_own A (nI s)) r)).length) → (List.range (s + 1)).all (fun s => decide (0 < ((raw s).filter (fun r => kf_all (kf_own A (nI s)) r)).length)) = ((List.range s).all (fun s => decide (0 < ((raw s).filter (fun r => kf_all (kf_own A (nI s)) r)).length)) && b) := fun b hb => by
          rw [List.range_succ, List.all_append, hb]
          simp
        have inv : ∀ j, j < s + 1 → rM u j ((raw j).filter (fun r => kf_all (kf_own A (nI j)) r)) ∧ u.2 67 j = 0 := fun j hj => by
          by_cases e : j = s
          · rw [e]; exact ⟨g5, g4⟩
          · exact g3 j (by omega)
        have hfl := g5.2.1
        refine bz (fun q => ih (_, _) ⟨?_, g1, g2, inv⟩) (fun q => pk_le ((raw s).filter (fun r => kf_all (kf_own A (nI s)) r)).length 0 (fun q' => ih (_, _) ⟨?_, g1, g2, inv⟩) (fun q' => ih (_, _) ⟨?_, g1, g2, inv⟩))
        · rw [hr _ rfl, q, Bool.false_and]
          rfl
        · rw [hr false (decide_eq_false (by omega)).symm, Bool.and_false]
          rfl
        · rw [hr true (decide_eq_true (by omega)).symm, q]
          rfl
      · have hgr : (raw s)[k]? = some (raw s)[k] := List.getElem?_eq_getElem w
        have ihk := ihk w
        rw [take_s w] at ihk
        generalize (raw s)[k] = r at hgr ihk
        have hcnt : (((raw s).take k).filter (fun r => kf_all (kf_own A (nI s)) r)).length ≤ k := by
          refine Nat.le_trans (List.length_filter_le _ _) ?_
          rw [List.length_take]
          exact Nat.min_le_left _ _
        have hh : ∃ src, (here = 1 ∧ ∀ c, c < 4 → u.2 59 (4 * (12 * s + k) + c) = r.2 c) ∨ (here = 0 ∧ (aSeat A)[s]? = some (nI src) ∧ src < 6 ∧ ∀ c, c < 4 → u.2 3 (4 * (12 * src + k) + c) = r.2 c) := by
          rcases hs' with ⟨e, _, _, w3⟩ | ⟨e, src, w1, w2, w3, w4, w5⟩
          · refine ⟨0, Or.inl ⟨e, fun c hc => ?_⟩⟩
            rw [g2 59 (by decide) (by decide) (by decide)]
            exact (w3 k r hgr).2 c hc
          · refine ⟨src, Or.inr ⟨e, w2, w1, fun c hc => ?_⟩⟩
            rw [g2 3 (by decide) (by decide) (by decide)]
            exact (w5 k r hgr).2 c hc
        obtain ⟨src, hh⟩ := hh
        refine km_laysRow (A := A) (src := src) hDu hi (by omega) hh (by omega) g5 (by omega) (fun S' f1 f2 f3 f4 f5 => ?_)
        rw [nI_1]
        refine ihk S' ⟨f1.trans g1, fun k a b c => (f2 k a b).trans (g2 k a b c), fun j hj => ⟨⟨?_, (g3 j hj).1.2.1, fun i q hq c hc => ?_⟩, ?_⟩, ?_, ?_⟩
        · rw [f3 j (by omega)]
          exact (g3 j hj).1.1
        · have := (List.getElem?_eq_some_iff.mp hq).1
          have hj12 := (g3 j hj).1.2.1
          rw [f4 _ (by omega)]
          exact (g3 j hj).1.2.2 i q hq c hc
        · rw [f2 67 (by decide) (by decide)]
          exact (g3 j hj).2
        · rw [f2 67 (by decide) (by decide)]
          exact g4
        · rw [List.filter_append]
          have e1 : [r].filter (fun r => kf_all (kf_own A (nI s)) r) = if kf_all (kf_own A (nI s)) r = true then [r] else [] := by
            cases hb : kf_all (kf_own A (nI s)) r <;> simp [hb]
          rw [e1]
          exact f5
    · have hjs : j ≠ s := by omega
      obtain ⟨⟨a1, a2, a3⟩, a4⟩ := h4 j hj
      exact ⟨⟨Eq.trans (upd_n hjs) a1, a2, a3⟩, Eq.trans (upd_n hjs) a4⟩
    · exact ⟨upd_s, Nat.zero_le _, fun i q hq => by simp at hq⟩
theorem tell_len {A : qkA} {M : Nat → qkRow} {vs : List qkV} (h11 : aQ A 11 = 0) : kf_tell A M vs = if vs.length < (aQ A 10).toNatClampNeg then vs ++ [((aOut A).length, kf_orow A M)] else vs := by
  unfold kf_tell
  rw [if_pos h11]
theorem tell_grp {A : qkA} {M : Nat → qkRow} {vs : List qkV} (h11 : ¬ aQ A 11 = 0) : kf_tell A M vs = kf_grp vs (kf_first A M) (kf_lastv A M) := by
  unfold kf_tell
  rw [if_neg h11]
def kf_wide (A : qkA) : Nat := if aQ A 11 = 0 then (aOut A).length else 3
theorem km_makes {A : qkA} {S : qm_S} {here n lim : Nat} {raw : Nat → List qkRow} {K : qm_S → Prop} (hD : cD A S) (hi : iD A) (hn : (aSeat A).length = n) (hn1 : 1 ≤ n) (ho1 : 1 ≤ (aOut A).length) (h37 : S.1 37 = aQ A 10) (h38 : S.1 38 = aQ A 11) (hlim : aQ A 10 = nI lim) (hl : lim ≤ 40) (hraw : ∀ s, s < n → rSrc A S here s (raw s)) (hval : ∀ s, s < n → ∀ r ∈ (raw s).filter (fun r => kf_all (kf_own A (nI s)) r), qkVal r)
    (hk : ∀ S' : qm_S, (∀ k, k ≠ 68 → k ≠ 69 → k ≠ 71 → S'.1 k = S.1 k) → (∀ k, k ≠ 65 → k ≠ 66 → k ≠ 67 → k ≠ 70 → k ≠ 72 → k ≠ 73 → k ≠ 74 → S'.2 k = S.2 k) → S'.1 68 = nI ((kf_walk A (fun s => (raw s).filter (fun r => kf_all (kf_own A (nI s)) r)) n).take lim).length → S'.1 69 = nI (kf_wide A) → (∀ (k : Nat) (r : qkV), ((kf_walk A (fun s => (raw s).filter (fun r => kf_all (kf_own A (nI s)) r)) n).take lim)[k]? = some r → r.1 = kf_wide A ∧ ∀ c, c < r.1 → S'.2 70 (3 * k + c) = r.2 c) → K S') : T_X8_makes (nI here) S K := by
  have hn3 : n ≤ 3 := by rw [← hn]; exact hi.1.1
  have ho3 := hi.2.2.2.1.1
  generalize hrss : (fun s => (raw s).filter (fun r => kf_all (kf_own A (nI s)) r)) = rss at hk
  have hrs : ∀ s, (raw s).filter (fun r => kf_all (kf_own A (nI s)) r) = rss s := fun s => by rw [← hrss]
  have hlk : ∀ l ∈ aLink A, ∃ a b, a < b ∧ b < n ∧ l.1 = nI a ∧ l.2.2.1 = nI b := fun l hl => by
    obtain ⟨a, b, h1, h2, h3, h4⟩ := (hi.2.1.2 l hl).1
    exact ⟨a, b, h1, by omega, h3, h4⟩
  -- the first output's cells
  obtain ⟨C, hC12, hCv, hCm⟩ : ∃ C : List Int32, C.length ≤ 12 ∧ (∀ c ∈ C, kf_val c) ∧ ∀ (S' : qm_S) (a : Nat → Nat) (Mt : Nat → qkRow), cAt S' n rss a Mt → kf_first A Mt ∈ C := by
    have hg : (aOut A)[0]? = some ((aOut A)[0]'(by omega)) := List.getElem?_eq_getElem (by omega)
    obtain ⟨⟨s0, hs0, e1⟩, ⟨c0, hc0, e2⟩⟩ := hi.2.2.2.1.2 _ (List.getElem_mem (show 0 < (aOut A).length by omega))
    refine ⟨(rss s0).map (fun r => r.2 c0), ?_, fun c hc => ?_, fun S' a Mt hc => ?_⟩
    · rw [List.length_map, ← hrs]
      exact Nat.le_trans (List.length_filter_le _ _) (hraw s0 (by omega)).len
    · obtain ⟨r, hr, e⟩ := List.mem_map.mp hc
      rw [← hrs] at hr
      rw [← e]
      exact hval s0 (by omega) r hr c0 hc0
    · obtain ⟨_, _, hm⟩ := hc s0 (by omega)
      have : kf_first A Mt = (Mt s0).2 c0 := by
        unfold kf_first kf_orow
        rw [hg]
        show kf_oc Mt _ = _
        unfold kf_oc
        rw [e1, e2, nI_clamp (n := s0) (by omega), nI_clamp (n := c0) (by omega)]
      rw [this]
      exact List.mem_map_of_mem (List.mem_of_getElem? hm)
  unfold T_X8_makes
  refine km_rows (A := A) (here := here) (raw := raw) (P := True) hD hi hn hraw (fun S1 f1 f2 f3 => ?_)
  intro X8 hX8
  -- the state where matching begins
  have hDg : ∀ S' : qm_S, (∀ k, k ≠ 68 → k ≠ 69 → k ≠ 71 → S'.1 k = S.1 k) → (∀ k, k ≠ 65 → k ≠ 66 → k ≠ 67 → k ≠ 70 → k ≠ 72 → k ≠ 73 → k ≠ 74 → S'.2 k = S.2 k) → cD A S' := fun S' a b => hD.fr (fun k _ _ => a k (by omega) (by omega) (by omega)) (fun k _ _ => b k (by omega) (by omega) (by omega) (by omega) (by omega) (by omega) (by omega))
  have Acc : qm_S → List qkV → Prop := fun S' vs => True
  clear Acc
  generalize hAcc : (fun (S' : qm_S) (vs : List qkV) => (∀ k, k ≠ 68 → k ≠ 69 → k ≠ 71 → S'.1 k = S.1 k) ∧ (∀ k, k ≠ 65 → k ≠ 66 → k ≠ 67 → k ≠ 70 → k ≠ 72 → k ≠ 73 → k ≠ 74 → S'.2 k = S.2 k) ∧ S'.2 65 = S1.2 65 ∧ S'.2 66 = S1.2 66 ∧ S'.1 69 = nI (kf_wide A) ∧ (aQ A 11 = 0 → aU A S' lim vs) ∧ (¬ aQ A 11 = 0 → aG S' C vs)) = Acc
  have acc : ∀ (S' : qm_S) (vs : List qkV), Acc S' vs ↔ ((∀ k, k ≠ 68 → k ≠ 69 → k ≠ 71 → S'.1 k = S.1 k) ∧ (∀ k, k ≠ 65 → k ≠ 66 → k ≠ 67 → k ≠ 70 → k ≠ 72 → k ≠ 73 → k ≠ 74 → S'.2 k = S.2 k) ∧ S'.2 65 = S1.2 65 ∧ S'.2 66 = S1.2 66 ∧ S'.1 69 = nI (kf_wide A) ∧ (aQ A 11 = 0 → aU A S' lim vs) ∧ (¬ aQ A 11 = 0 → aG S' C vs)) := fun S' vs => by rw [← hAcc]
  clear hAcc
  -- the end
  have hexit : ∀ S' : qm_S, Acc S' (kf_walk A rss n) → X8 0 S' := by
    intro S' hA
    obtain ⟨a1, a2, a3, a4, a5, a6, a7⟩ := (acc _ _).mp hA
    refine hX8 _ _ ⟨fun _ => ?_, fun z => absurd rfl z⟩
    rw [a1 38 (by decide) (by decide) (by decide), h38]
    refine ⟨fun z => ?_, fun z => ?_⟩
    · obtain ⟨u1, u2, u3⟩ := a6 z
      have ht : (kf_walk A rss n).take lim = kf_walk A rss n := List.take_of_length_le u2
      refine hk S' a1 a2 (by rw [ht]; exact u1) a5 (fun k r hr => ?_)
      rw [ht] at hr
      obtain ⟨w1, w2⟩ := u3 k r hr
      refine ⟨?_, w2⟩
      unfold kf_wide
      rw [if_pos z]
      exact w1
    · have hG := a7 z
      refine km_makesGroups (lim := lim) hl (by rw [a1 37 (by decide) (by decide) (by decide), h37]; exact hlim) hC12 hCv hG (fun S2 g1 g2 g3 g4 => ?_)
      refine hk S2 (fun k a b c => (g1 k a).trans (a1 k a b c)) (fun k a b c d e f g => (g2 k d).trans (a2 k a b c d e f g)) g3 ((g1 69 (by decide)).trans a5) (fun k r hr => ?_)
      have hr3 : r.1 = 3 := by
        obtain ⟨_, _, _, _, _, h5⟩ := hG
        exact h5 r (List.mem_of_mem_take (List.mem_of_getElem? hr))
      refine ⟨?_, fun c hc => g4 k r hr c (by omega)⟩
      unfold kf_wide
      rw [if_neg z]
      exact hr3
  have hini : Acc (upd (upd (upd S1.1 68 0) 71 0) 69 (if S1.1 38 = 0 then S1.1 34 else 3), S1.2) [] := by
    refine (acc _ _).mpr ⟨fun k a b c => ?_, fun k a b c _ _ _ _ => f2 k a b c, rfl, rfl, ?_, fun _ => ⟨rfl, Nat.zero_le _, fun k r hr => by simp at hr⟩, fun _ => ⟨[], rfl, fun k g hg => by simp at hg, List.Perm.refl _, ⟨List.Pairwise.nil, fun v hv => by simp at hv⟩, fun r hr => by simp at hr⟩⟩
    · show upd (upd (upd S1.1 68 0) 71 0) 69 _ k = _
      rw [upd_n b, upd_n c, upd_n a, f1]
    · show (if S1.1 38 = 0 then S1.1 34 else (3 : Int32)) = _
      rw [f1, h38, hD.2.2.2.1]
      unfold kf_wide
      by_cases z : aQ A 11 = 0
      · rw [if_pos z, if_pos z]
      · rw [if_neg z, if_neg z]
        rfl
  have hrM : ∀ (S' : qm_S) (vs : List qkV), Acc S' vs → ∀ s, s < n → rM S' s (rss s) := by
    intro S' vs hA s hs
    obtain ⟨_, _, a3, a4, _⟩ := (acc _ _).mp hA
    have := (f3 s hs).1
    rw [hrs] at this
    unfold rM at this ⊢
    rw [a3, a4]
    exact this
  by_cases hall : (List.range n).all (fun s => decide (0 < ((raw s).filter (fun r => kf_all (kf_own A (nI s)) r)).length)) = true
  · rw [b2_t hall]
    rw [List.all_eq_true] at hall
    have hne : ∀ s, s < n → 0 < (rss s).length := fun s hs => by
      have := hall s (List.mem_range.mpr hs)
      rw [hrs] at this
      exact of_decide_eq_true this
    have hrun := km_loop (A := A) (n := n) (rss := rss) (X8 := X8) (Acc := Acc) hn1 hn3 hne (fun Sa Sb vs e1 e2 hA => ?_) (fun Sa vs hA => ?_) hrM (fun Sa a Mt vs hA hcat hgo => ?_) n 0 (fun _ => 0) [] (Nat.zero_add n) (fun j hj => absurd hj (by omega)) (fun _ _ _ => rfl) (fun _ Sa hA => ?_) (fun s' e => absurd e (by omega)) _ hini (fun j hj => (f3 j hj).2)
    · exact hrun
    · obtain ⟨a1, a2, a3, a4, a5, a6, a7⟩ := (acc _ _).mp hA
      refine (acc _ _).mpr ⟨fun k a b c => by rw [e1]; exact a1 k a b c, fun k a b c d e f g => (e2 k c).trans (a2 k a b c d e f g), (e2 65 (by decide)).trans a3, (e2 66 (by decide)).trans a4, by rw [e1]; exact a5, fun z => ?_, fun z => ?_⟩
      · obtain ⟨u1, u2, u3⟩ := a6 z
        refine ⟨by rw [e1]; exact u1, u2, fun k r hr => ?_⟩
        rw [e2 70 (by decide)]
        exact u3 k r hr
      · obtain ⟨gs, u1, u2, u3⟩ := a7 z
        refine ⟨gs, by rw [e1]; exact u1, fun k g hg => ?_, u3⟩
        rw [e2 72 (by decide), e2 73 (by decide), e2 74 (by decide)]
        exact u2 k g hg
    · obtain ⟨a1, _⟩ := (acc _ _).mp hA
      rw [a1 22 (by decide) (by decide) (by decide), hD.1.1, hn]
    · obtain ⟨a1, a2, a3, a4, a5, a6, a7⟩ := (acc _ _).mp hA
      have hDa := hDg Sa a1 a2
      refine hX8 _ _ ⟨fun z => absurd z (by decide), fun _ => ?_⟩
      have hl1 : ∀ {K : Int32 → Prop}, K (b2 (kf_lall (aLink A) Mt)) → T_X8_areLinked Sa K := fun h => km_areLinked hDa hi hn hcat h
      refine hl1 ?_
      intro J hJ
      have hJ' : ∀ S', Acc S' (if kf_lall (aLink A) Mt = true then kf_tell A Mt vs else vs) → S'.2 67 = Sa.2 67 → J S' := fun S' h1 h2 => hJ S' (hgo S' h1 h2)
      refine bz (fun w => hl1 ?_) (fun w => ?_)
      · rw [w] at hJ' ⊢
        exact ⟨fun _ => hJ' Sa hA rfl, fun z => absurd rfl z⟩
      · rw [w, if_pos rfl] at hJ'
        rw [a1 38 (by decide) (by decide) (by decide), h38]
        refine ⟨fun z => hl1 ?_, fun z => ?_⟩
        · rw [w]
          refine ⟨fun z => absurd z (by decide), fun _ => ?_⟩
          refine km_addsMatch (lim := lim) hDa hi hn hcat hl (by rw [a1 37 (by decide) (by decide) (by decide), h37]; exact hlim) (a6 z) (fun S2 g1 g2 g3 => hJ' S2 ?_ (g2 67 (by decide)))
          rw [tell_len z, hlim, nI_clamp (n := lim) (by omega)]
          exact (acc _ _).mpr ⟨fun k a b c => (g1 k a).trans (a1 k a b c), fun k a b c d e f g => (g2 k d).trans (a2 k a b c d e f g), (g2 65 (by decide)).trans a3, (g2 66 (by decide)).trans a4, (g1 69 (by decide)).trans a5, fun _ => g3, fun q => absurd z q⟩
        · refine km_addsToGroup (C := C) hDa hi hn ho1 hcat hC12 hCv (hCm Sa a Mt hcat) (a7 z) (fun S2 g1 g2 g3 => hJ' S2 ?_ (g2 67 (by decide) (by decide) (by decide)))
          rw [tell_grp z]
          exact (acc _ _).mpr ⟨fun k a b c => (g1 k c).trans (a1 k a b c), fun k a b c d e f g => (g2 k e f g).trans (a2 k a b c d e f g), (g2 65 (by decide) (by decide) (by decide)).trans a3, (g2 66 (by decide) (by decide) (by decide)).trans a4, (g1 69 (by decide)).trans a5, fun q => absurd q z, fun _ => g3⟩
    · have hm : kf_mof rss (fun _ => 0) 0 = (fun _ => (0, fun _ => 0)) := by
        funext i
        unfold kf_mof
        rw [if_neg (by omega)]
      rw [hm, enum_walk hn3 hlk] at hA
      exact hexit Sa hA
  · rw [Bool.not_eq_true] at hall
    rw [b2_f hall]
    rw [List.all_eq_false] at hall
    obtain ⟨t, ht, hz⟩ := hall
    rw [List.mem_range] at ht
    have hnil : rss t = [] := by
      rw [hrs] at hz
      have : ¬ 0 < (rss t).length := by simpa using hz
      exact List.length_eq_zero_iff.mp (by omega)
    refine hexit _ ?_
    rw [← enum_walk hn3 hlk, enum_none hnil (Nat.zero_le t) (by omega)]
    exact hini
