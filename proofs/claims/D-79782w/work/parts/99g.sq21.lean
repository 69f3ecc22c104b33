/-! SQ 21: a seat taken on both sides, joined -/
set_option maxRecDepth 100000
theorem entry_some {A : qkA} {src e : Nat} {sent : List qkC} {fresh : Int32} (h : kf_entry A src sent fresh = some e) : ∃ he : e < (aCache A).length, kf_serves A src sent fresh (aCache A)[e] = true := by
  unfold kf_entry at h
  have key : ∀ n, n ≤ (aCache A).length → kf_last (kf_serves A src sent fresh) (aCache A) n = some e → ∃ he : e < (aCache A).length, kf_serves A src sent fresh (aCache A)[e] = true := by
    intro n
    induction n with
    | zero => intro _ h; cases h
    | succ n ih =>
      intro hn h
      have hl : kf_last (kf_serves A src sent fresh) (aCache A) (n + 1) = if ((aCache A)[n]?.map (kf_serves A src sent fresh)) = some true then some n else kf_last (kf_serves A src sent fresh) (aCache A) n := rfl
      rw [hl, List.getElem?_eq_getElem (show n < (aCache A).length by omega)] at h
      by_cases c : kf_serves A src sent fresh (aCache A)[n] = true
      · rw [if_pos (by simp [c])] at h
        cases h
        exact ⟨by omega, c⟩
      · rw [if_neg (by simpa using c)] at h
        exact ih (by omega) h
  exact key _ (Nat.le_refl _) h
theorem km_takes {A : qkA} {S : qm_S} {T M n i : Nat} {ss : Nat → qkSeat} {f : Nat → Int32} {tk : List Int32} {b d fresh : Int32} {K : qm_S → Prop} (h : qkB A S) (hi : qkI T M A) (hTM : T + 600 ≤ 2 ^ 20 ∧ M ≤ 2 ^ 20) (hn : (aSeat A).length = n) (hQ : cQ A S n ss f tk b d fresh) (hd : ¬ d = -1) (hin : i < n) (hnt : kf_taken ss i = false) (htl : tk.length ≤ 2)
    (hk : ∀ S' : qm_S, qkB (kf_take A n ss i fresh b d f).1 S' → cQ (kf_take A n ss i fresh b d f).1 S' n (qkU ss i (kf_take A n ss i fresh b d f).2.2) (kf_take A n ss i fresh b d f).2.1 (tk ++ [10 * (kf_take A n ss i fresh b d f).2.2.2.2.2.2 0 + (kf_take A n ss i fresh b d f).2.2.2.2.2.2 7]) b d fresh → S'.1 0 = S.1 0 → K S') : T_X8_takes (nI i) S K := by
  have iD' := hi.2.2.2.1
  have h3 := iD'.1.1
  have hn3 : n ≤ 3 := by omega
  have hQ' := hQ
  obtain ⟨qSt, qTk, qSe, qf, ⟨q83, qtk⟩, q78, q52, q53, q54⟩ := hQ'
  obtain ⟨hs, h6, hown, hsent, h0⟩ := qSt i hin
  have hv5 : (ss i).2.2.2.2 5 = 0 := by
    unfold kf_taken at hnt
    simpa using hnt
  obtain ⟨hv6, hv9⟩ := (qSe i hin).1 hv5
  have hlks : ∀ l ∈ aLink A, (∃ q, q < 4 ∧ l.2.1 = nI q) ∧ (∃ q, q < 4 ∧ l.2.2.2 = nI q) := fun l hl => ⟨(iD'.2.1.2 l hl).2.1, (iD'.2.1.2 l hl).2.2⟩
  have htkA : qkTk A (kf_pre A n ss i fresh b d f).1 := (pre_gd hi.gd h6 hlks).2.2
  obtain ⟨hT, hL, hR, hS, hD, hE, hB⟩ := id h
  have h5 := (hS (ss i).1 h6).2.1
  -- S with the seat's cost 0
  have hB0 : qkB A (upd S.1 55 0, S.2) := h.fr (fun k hk => un1 (by omega)) (fun _ _ => rfl)
  have hQ0 : cQ A (upd S.1 55 0, S.2) n ss f tk b d fresh := ⟨qSt, qTk, qSe, qf, ⟨q83, qtk⟩, q78, q52, q53, q54⟩
  have hD0 : cD A (upd S.1 55 0, S.2) := hB0.2.2.2.2.1
  unfold kf_take at hk
  unfold T_X8_takes
  rw [nI_clamp (n := i) (by omega)]
  -- behind the taking
  have fin : ∀ (S1 : qm_S) (f' sv' : Nat → Int32) (raw : List qkRow) (x : Int32) (h7 : Nat), kf_pre A n ss i fresh b d f = ((kf_pre A n ss i fresh b d f).1, f', sv', raw) → qkB (kf_pre A n ss i fresh b d f).1 S1 → qG i (upd S.1 55 0, S.2) S1 → rSeat S1 i raw → rF f' S1 → x = kf_code sv' → (sv' 6 = 0 → S1.2 60 i = kf_since (aWr A (ss i).1) (sv' 8) ∧ S1.2 61 i = kf_until (aWr A (ss i).1) (sv' 8) (aQ A 14)) → h7 ≤ 3 → sv' 7 = nI h7 → sv' 0 = nI i → vp_in (nI i) (qm_len 56) ∧ vp_in (S1.1 83) (qm_len 84) ∧ K ((upd (upd S1.1 78 ((S1.1 78) ||| ((if x < 10 then (0 : Int32) else 1 <<< (nI i &&& 31))))) 83 ((S1.1 83) + 1), qm_uA (qm_uA S1.2 56 (upd (S1.2 56) i 1)) 84 (upd (S1.2 84) (S1.1 83).toNatClampNeg ((10 * nI i) + (x - x / 10 * 10))))) := by
    intro S1 f' sv' raw x h7 hp g1 g2 g3 g4 g5 g6 g7 g8 g9
    rw [hp] at hk
    exact takes_end hn3 hQ0 hin hnt htl htkA g1 g2 g3 g4 g5 g6 g7 g8 g9 (fun S' e1 e2 e3 => hk S' e1 e2 e3)
  refine km_entryFor hT hD0 hB0.2.2.2.2.2.1 iD' hi.2.2.2.2.2.2 hs h6 q53 ?_
  refine km_linkOf hD0 iD' hn qSt qTk hin ?_
  rw [← hsent]
  intro J37 hJ37
  have hcl := hi.2.2.2.2.2.2.1
  cases hen : kf_entry A (ss i).1 (ss i).2.2.1 fresh with
  | some e =>
    obtain ⟨he, hsv⟩ := entry_some hen
    have he1 : kf_on (some e) = nI e := rfl
    rw [he1]
    refine ⟨fun z => absurd z (nI_nm1 (by omega)), fun _ => ?_⟩
    have hg : (aCache A)[e]? = some (aCache A)[e] := List.getElem?_eq_getElem he
    obtain ⟨hs6, hc4, hrs⟩ := hi.2.2.2.2.2.2.2 _ (List.getElem_mem he)
    obtain ⟨m, hmM, hm14, hw, _⟩ := hi.2.2.2.2.2.1.2
    have hEE : (aCache A)[e].1 = (ss i).1 := by
      unfold kf_serves at hsv
      rw [Bool.and_eq_true, decide_eq_true_eq] at hsv
      exact hsv.1.1
    have hre := hE.2 e _ hg
    have hpre : kf_pre A n ss i fresh b d f = (A, f, upd (upd (upd (ss i).2.2.2.2 7 3) 7 0) 8 (aCache A)[e].2.2.2.2, (aCache A)[e].2.2.1) := by
      unfold kf_pre
      rw [hen]
      dsimp only
      rw [hg]
    generalize (aCache A)[e] = E at hg hs6 hc4 hrs hEE hre hpre
    refine km_serves (S := (upd S.1 55 0, S.2)) hT (by omega) (by omega) hre hrs.1 (fun S1 g1 g2 g3 g4 g5 g6 g7 => ?_)
    obtain ⟨_, _, a42, a43, _⟩ := hre
    refine hJ37 0 S1 ?_
    have hpre1 : (kf_pre A n ss i fresh b d f).1 = A := by rw [hpre]
    have hw' := wr_pos hi.2.2.2.2.2.1 hTM.2 h6
    refine fin S1 f (upd (upd (upd (ss i).2.2.2.2 7 3) 7 0) 8 E.2.2.2.2) E.2.2.1 0 0 (by rw [hpre]) (by rw [hpre1]; exact hB0.fr (fun k _ => by rw [g1]) (fun k hk => g2 k (by omega) (by omega) (by omega) (by omega) (by omega))) ⟨fun k _ => by rw [g1], g2 56 (by decide) (by decide) (by decide) (by decide) (by decide), g2 84 (by decide) (by decide) (by decide) (by decide) (by decide), g3, g4⟩ g5 ?_ ?_ (fun _ => ⟨?_, ?_⟩) (by omega) ?_ ?_
    · obtain ⟨f1, f2, f3⟩ := qf
      refine ⟨?_, ?_, ?_⟩
      · rw [g1]; exact f1
      · rw [g1]; exact f2
      · rw [g1]; exact f3
    · unfold kf_code
      rw [upd_n (show (6 : Nat) ≠ 8 by decide), upd_n (show (6 : Nat) ≠ 7 by decide), upd_n (show (6 : Nat) ≠ 7 by decide), if_pos hv6, upd_n (show (7 : Nat) ≠ 8 by decide), upd_s]
    · rw [g6, upd_s]
      rw [hEE] at a42
      exact a42
    · rw [g7, upd_s]
      rw [hEE] at a43
      have e1 : ((upd S.1 55 0, S.2) : qm_S).2 43 e = S.2 43 e := rfl
      have e2 : ((upd S.1 55 0, S.2) : qm_S).1 7 = aQ A 14 := hT.2.1
      rw [e1, e2, a43]
      exact (until_now hw').symm
    · rw [upd_n (by decide), upd_s]
      rfl
    · rw [upd_n (by decide), upd_n (by decide), upd_n (by decide)]
      exact h0
  | none =>
    have he1 : kf_on none = -1 := rfl
    rw [he1]
    refine ⟨fun _ => ?_, fun z => absurd rfl z⟩
    intro J29 hJ29
    -- rows of a scan or of a link: right from the last write until now
    have fin2 : ∀ (S1 : qm_S) (f' sv' : Nat → Int32) (raw : List qkRow) (x : Int32) (h7 : Nat), kf_pre A n ss i fresh b d f = ((kf_pre A n ss i fresh b d f).1, f', sv', raw) → qkB (kf_pre A n ss i fresh b d f).1 S1 → qG i (upd S.1 55 0, S.2) S1 → rSeat S1 i raw → rF f' S1 → x = kf_code sv' → (sv' 6 = 0 → sv' 8 = aQ A 14) → h7 ≤ 3 → sv' 7 = nI h7 → sv' 0 = nI i → J29 x S1 := by
      intro S1 f' sv' raw x h7 hp g1 g2 g3 g4 g5 g6 g7 g8 g9
      refine hJ29 x S1 ?_
      have hsA : (aSeat (kf_pre A n ss i fresh b d f).1)[i]? = some (nI (ss i).1) := by rw [htkA.2.2.2.2.2.1]; exact hs
      rw [g1.2.2.2.2.1.1.2 i _ hsA, nI_clamp (n := (ss i).1) (by omega)]
      refine ⟨pk_in i 3 (by omega), pk_in (ss i).1 6 h6, pk_in i 3 (by omega), pk_in i 3 (by omega), ?_⟩
      refine hJ37 x _ ?_
      refine fin _ f' sv' raw x h7 hp (g1.fr (fun _ _ => rfl) (fun k hk => (un2 (by omega)).trans (uA_n (by omega)))) (g2.tr ⟨fun _ _ => rfl, rfl, rfl, fun j hj => ⟨rfl, upd_n hj, upd_n hj⟩, fun _ _ => ⟨rfl, fun _ _ => rfl⟩⟩) g3 g4 g5 (fun w => ⟨?_, ?_⟩) g7 g8 g9
      · show upd (S1.2 60) i (S1.2 5 (ss i).1) i = _
        rw [upd_s, (g1.2.2.2.1 (ss i).1 h6).2.1, g6 w]
        obtain ⟨m, hmM, hm14, hw, _⟩ := hi.2.2.2.2.2.1.2
        have hWr : aWr (kf_pre A n ss i fresh b d f).1 = aWr A := htkA.2.2.2.2.1
        rw [hWr]
        refine (since_last (fun w hw' => ?_)).symm
        obtain ⟨j, _, hj, e⟩ := (hw (ss i).1 h6).2 w hw'
        rw [e, hm14]
        exact nI_nlt hj (by omega)
      · show upd (S1.2 61) i (S1.1 7) i = _
        rw [upd_s, g1.1.2.1, g6 w, htkA.1 14 (by decide)]
        obtain ⟨m, hmM, hm14, hw, _⟩ := hi.2.2.2.2.2.1.2
        refine (until_none (fun w hw' => ?_)).symm
        obtain ⟨j, _, hj, e⟩ := (hw (ss i).1 h6).2 w hw'
        rw [e, hm14]
        exact nI_le hj (by omega)
    -- a scan, from a state whose keys alone differ
    have scan : ∀ S2 : qm_S, (∀ k, k ≠ 63 → S2.1 k = upd S.1 55 0 k) → (∀ k, k ≠ 64 → S2.2 k = S.2 k) → kf_pre A n ss i fresh b d f = kf_scan A (ss i).1 (ss i).2.2.1 (upd (ss i).2.2.2.2 7 3) f b d → T_X8_scans (nI i) S2 (fun r7 S9 => J29 (3 + (if r7 = 0 then (0 : Int32) else (10 : Int32))) S9) := by
      intro S2 e1 e2 hp
      have hG2 : qG i (upd S.1 55 0, S.2) S2 := ⟨fun k hk => e1 k (by omega), e2 56 (by decide), e2 84 (by decide), fun j _ => ⟨by rw [e2 57 (by decide)], by rw [e2 60 (by decide)], by rw [e2 61 (by decide)]⟩, fun q _ => ⟨by rw [e2 58 (by decide)], fun c _ => by rw [e2 59 (by decide)]⟩⟩
      rw [hsent] at hp
      refine km_scans (A := A) (T := T) (M := M) (src := (ss i).1) (sv := upd (ss i).2.2.2.2 7 3) (f := f) (b := b) (d := d) (hB0.fr (fun k hk => e1 k (by omega)) (fun k hk => e2 k (by omega))) hi ⟨by omega, hTM.2⟩ hs h6 hd ((e1 52 (by decide)).trans q52) ((e1 54 (by decide)).trans q54) ?_ ⟨(e1 80 (by decide)).trans qf.1, (e1 81 (by decide)).trans qf.2.1, (e1 82 (by decide)).trans qf.2.2⟩ (fun S3 g1 g2 g3 g4 g5 g6 => ?_)
      · rw [e1 55 (by decide), upd_s, upd_n (by decide), hv9]
      · rw [← hp] at g1 g3 g4 g6 ⊢
        have h7 : (kf_pre A n ss i fresh b d f).2.2.1 7 = nI 3 := by
          rw [hp, scan_sv (by decide) (by decide) (by decide), upd_s]
          rfl
        refine fin2 S3 (kf_pre A n ss i fresh b d f).2.1 (kf_pre A n ss i fresh b d f).2.2.1 (kf_pre A n ss i fresh b d f).2.2.2 _ 3 rfl g1 (hG2.tr g2.g) g3 g4 ?_ (fun w => ?_) (Nat.le_refl _) h7 ?_
        · unfold kf_code
          rw [h7]
          by_cases c : (kf_pre A n ss i fresh b d f).2.2.1 6 = 0
          · rw [if_pos c, if_pos c, Int32.add_zero]
            rfl
          · rw [if_neg c, if_neg c]
            rfl
        · rw [hp] at w ⊢
          exact scan_8 (Or.inl w)
        · rw [hp, scan_sv (by decide) (by decide) (by decide), upd_n (by decide)]
          exact h0
    cases hlk : kf_linkOf A n ss (nI i) with
    | none =>
      have hl1 : kf_on none = -1 := rfl
      rw [hl1]
      refine ⟨fun _ => scan _ (fun _ _ => rfl) (fun _ _ => rfl) ?_, fun z => absurd rfl z⟩
      unfold kf_pre
      rw [hen]
      dsimp only
      rw [h0, hlk]
    | some k =>
      have hkl := link_lt hlk
      have hl3 := iD'.2.1.1
      have hl1 : kf_on (some k) = nI k := rfl
      rw [hl1]
      refine ⟨fun z => absurd z (nI_nm1 (by omega)), fun _ => ?_⟩
      have hg : (aLink A)[k]? = some (aLink A)[k] := List.getElem?_eq_getElem hkl
      obtain ⟨⟨a, b', hab, hb', e1, e2⟩, ⟨ca, hca, eca⟩, ⟨cb, hcb, ecb⟩⟩ := iD'.2.1.2 _ (List.getElem_mem hkl)
      have hlinked : kf_linked n ss (nI i) (aLink A)[k] = true := by
        unfold kf_linkOf at hlk
        rw [List.findIdx?_eq_some_iff_getElem] at hlk
        exact hlk.2.1
      generalize (aLink A)[k] = l at hg e1 e2 eca ecb hlinked
      rw [lk_iff qSt hin hn3 hab (by omega) e1 e2, Bool.or_eq_true, Bool.and_eq_true, Bool.and_eq_true, decide_eq_true_eq, decide_eq_true_eq] at hlinked
      -- the other seat
      obtain ⟨o, hon, hoth, hot, hio⟩ : ∃ o, o < n ∧ kf_oth l (nI i) = o ∧ kf_taken ss o = true ∧ ((i = a ∧ o = b') ∨ (i = b' ∧ o = a)) := by
        unfold kf_oth
        rw [e1, e2]
        rcases hlinked with ⟨p, q⟩ | ⟨p, q⟩
        · refine ⟨b', by omega, ?_, q, Or.inl ⟨p.symm, rfl⟩⟩
          rw [if_pos (by rw [p])]
          exact nI_clamp (by omega)
        · refine ⟨a, by omega, ?_, q, Or.inr ⟨p.symm, rfl⟩⟩
          rw [if_neg (fun z => by have := (nI_eq (by omega) (by omega)).mp z; omega)]
          exact nI_clamp (by omega)
      obtain ⟨hos, ho6, hoown, hosent, ho0⟩ := qSt o hon
      have hv5o : ¬ (ss o).2.2.2.2 5 = 0 := by
        unfold kf_taken at hot
        simpa using hot
      obtain ⟨raw, r1, r2, _⟩ := (qSe o hon).2 hv5o
      have hpre : kf_pre A n ss i fresh b d f = (if (kf_bind A (ss i).1 (ss o).1 (ss i).2.2.1 (upd (ss i).2.2.2.2 7 3) (ss o).2.2.2.2 (ss o).2.2.2.1 l b d f).1 = 0 then kf_scan (kf_bind A (ss i).1 (ss o).1 (ss i).2.2.1 (upd (ss i).2.2.2.2 7 3) (ss o).2.2.2.2 (ss o).2.2.2.1 l b d f).2.1 (ss i).1 (ss i).2.2.1 (kf_bind A (ss i).1 (ss o).1 (ss i).2.2.1 (upd (ss i).2.2.2.2 7 3) (ss o).2.2.2.2 (ss o).2.2.2.1 l b d f).2.2.2.1 (kf_bind A (ss i).1 (ss o).1 (ss i).2.2.1 (upd (ss i).2.2.2.2 7 3) (ss o).2.2.2.2 (ss o).2.2.2.1 l b d f).2.2.1 b d else (kf_bind A (ss i).1 (ss o).1 (ss i).2.2.1 (upd (ss i).2.2.2.2 7 3) (ss o).2.2.2.2 (ss o).2.2.2.1 l b d f).2) := by
        unfold kf_pre
        rw [hen]
        dsimp only
        rw [h0, hlk]
        dsimp only
        rw [hg]
        dsimp only
        rw [hoth]
      have hsv0 : upd (ss i).2.2.2.2 7 3 0 = nI i := (upd_n (by decide)).trans h0
      refine km_canBind (A := A) (T := T) (M := M) (lk := l) (raw := raw) (sv := upd (ss i).2.2.2.2 7 3) (osv := (ss o).2.2.2.2) hB0 hi hs h6 hos ho6 hg e1 e2 hab hio hsv0 ho0 r1 (fun hno S2 g1 g2 => ?_) (fun hok S2 g1 g2 g63 gK => ?_)
      · rw [← r2, ← hsent] at hno
        have hbn := bind_no (b := b) (d := d) (f := f) hno
        rw [hbn, if_pos rfl] at hpre
        refine ⟨fun _ => scan S2 (fun k hk => g1 k hk) (fun k hk => g2 k hk) hpre, fun z => absurd rfl z⟩
      · rw [← r2, ← hsent] at hok
        have hbo := bind_ok (b := b) (d := d) (f := f) hok
        rw [← r2] at g63 gK
        rw [hbo] at hpre
        refine ⟨fun z => absurd z (by decide), fun _ => ⟨pk_in k 3 (by omega), ⟨fun _ => pk_in k 3 (by omega), fun _ => pk_in k 3 (by omega)⟩, ?_⟩⟩
        obtain ⟨l1, l2, l3, l4⟩ := hD.2.1.2 k l hg
        rw [nI_clamp (n := k) (by omega), g2 25 (by decide), g2 26 (by decide), g2 28 (by decide)]
        have l1' : ((upd S.1 55 0, S.2) : qm_S).2 25 k = l.1 := l1
        have l2' : ((upd S.1 55 0, S.2) : qm_S).2 26 k = l.2.1 := l2
        have l4' : ((upd S.1 55 0, S.2) : qm_S).2 28 k = l.2.2.2 := l4
        rw [l1', l2', l4']
        obtain ⟨q, hq4, hcq⟩ : ∃ q, q < 4 ∧ kf_colOf l (nI i) = nI q := by
          unfold kf_colOf
          by_cases c : nI i = l.1
          · rw [if_pos c]; exact ⟨ca, hca, eca⟩
          · rw [if_neg c]; exact ⟨cb, hcb, ecb⟩
        have hcol : (if l.1 = nI i then l.2.1 else l.2.2.2) = nI q := by
          rw [← hcq]
          unfold kf_colOf
          by_cases c : l.1 = nI i
          · rw [if_pos c, if_pos c.symm]
          · rw [if_neg c, if_neg (fun z => c z.symm)]
        rw [hcol]
        rw [hsv0, hcq] at hpre
        have hkl12 : (kf_keys (kf_colOf l ((ss o).2.2.2.2 0)) (ss o).2.2.2.1).length ≤ 12 := by
          refine Nat.le_trans keys_len ?_
          rw [r2]
          exact Nat.le_trans (List.length_filter_le _ _) r1.2.1
        have hG2 : qG i (upd S.1 55 0, S.2) S2 := ⟨fun k hk => g1 k (by omega), g2 56 (by decide), g2 84 (by decide), fun j _ => ⟨by rw [g2 57 (by decide)], by rw [g2 60 (by decide)], by rw [g2 61 (by decide)]⟩, fun q _ => ⟨by rw [g2 58 (by decide)], fun c _ => by rw [g2 59 (by decide)]⟩⟩
        rw [← fin_eq, hsent] at hpre
        refine km_binds (A := A) (T := T) (M := M) (src := (ss i).1) (sv := upd (ss i).2.2.2.2 7 3) (f := f) (b := b) (d := d) (ks := kf_keys (kf_colOf l ((ss o).2.2.2.2 0)) (ss o).2.2.2.1) (hB0.fr (fun k hk => g1 k (by omega)) (fun k hk => g2 k (by omega))) hi hTM hs h6 hq4 hd keys_asc hkl12 ((g1 52 (by decide)).trans q52) ((g1 54 (by decide)).trans q54) ?_ ⟨(g1 80 (by decide)).trans qf.1, (g1 81 (by decide)).trans qf.2.1, (g1 82 (by decide)).trans qf.2.2⟩ g63 gK ((upd_n (by decide)).trans hv6) (fun S3 x1 x2 x3 x4 => ?_)
        · rw [g1 55 (by decide), upd_n (by decide), hv9]
          exact us1
        · have b7 := bl_7 (src := (ss i).1) (sent := kf_sent A (nI i) (ss i).1) (ks := kf_keys (kf_colOf l ((ss o).2.2.2.2 0)) (ss o).2.2.2.1) (col := nI q) (b := b) (d := d) (most := kf_scost A (ss i).1 (kf_sent A (nI i) (ss i).1).length) (n := ((kf_keys (kf_colOf l ((ss o).2.2.2.2 0)) (ss o).2.2.2.1).length + 3) / 4) (k := 0) (A := A) (f := f) (sv := upd (upd (upd (ss i).2.2.2.2 7 3) 7 1) 8 (aQ A 14)) (rows := []) (by rw [upd_n (by decide), upd_s])
          have b8 := bl_8 (src := (ss i).1) (sent := kf_sent A (nI i) (ss i).1) (ks := kf_keys (kf_colOf l ((ss o).2.2.2.2 0)) (ss o).2.2.2.1) (col := nI q) (b := b) (d := d) (most := kf_scost A (ss i).1 (kf_sent A (nI i) (ss i).1).length) (m := aQ A 14) (n := ((kf_keys (kf_colOf l ((ss o).2.2.2.2 0)) (ss o).2.2.2.1).length + 3) / 4) (k := 0) (A := A) (f := f) (sv := upd (upd (upd (ss i).2.2.2.2 7 3) 7 1) 8 (aQ A 14)) (rows := []) rfl upd_s
          have b0 := bl_0 (src := (ss i).1) (sent := kf_sent A (nI i) (ss i).1) (ks := kf_keys (kf_colOf l ((ss o).2.2.2.2 0)) (ss o).2.2.2.1) (col := nI q) (b := b) (d := d) (most := kf_scost A (ss i).1 (kf_sent A (nI i) (ss i).1).length) (n := ((kf_keys (kf_colOf l ((ss o).2.2.2.2 0)) (ss o).2.2.2.1).length + 3) / 4) (k := 0) (A := A) (f := f) (sv := upd (upd (upd (ss i).2.2.2.2 7 3) 7 1) 8 (aQ A 14)) (rows := [])
          rw [← hpre] at x1 x3 x4 ⊢
          have h8 : (kf_pre A n ss i fresh b d f).2.2.1 8 = aQ A 14 := by
            rw [hpre]
            exact fin_8 b8.2 b8.1
          have hk7 : ∃ h7, h7 ≤ 3 ∧ (kf_pre A n ss i fresh b d f).2.2.1 7 = nI h7 := by
            rw [hpre, fin_k (by decide) (by decide) (by decide)]
            rcases b7 with z | z
            · exact ⟨1, by omega, z⟩
            · exact ⟨2, by omega, z⟩
          obtain ⟨h7, hh7, e7⟩ := hk7
          refine fin2 S3 (kf_pre A n ss i fresh b d f).2.1 (kf_pre A n ss i fresh b d f).2.2.1 (kf_pre A n ss i fresh b d f).2.2.2 _ h7 rfl x1 (hG2.tr x2.g) x3 x4 rfl (fun _ => h8) hh7 e7 ?_
          rw [hpre, fin_k (by decide) (by decide) (by decide), b0, upd_n (by decide), upd_n (by decide)]
          exact hsv0
