/-! SQ 12: an entry remembered; a scan -/
set_option maxRecDepth 100000
theorem since_fold {m : Int32} : ∀ {ws : List Int32} {a : Int32}, (∀ w ∈ ws, ¬ m < w) → ws.foldl (fun a w => if m < w then a else w) a = ws.getLast?.getD a := by
  intro ws
  induction ws with
  | nil => intro a _; rfl
  | cons w ws ih =>
    intro a h
    rw [List.foldl_cons, if_neg (h w (List.mem_cons_self ..)), ih (fun x hx => h x (List.mem_cons_of_mem _ hx)), List.getLast?_cons]
    rfl
theorem since_last {ws : List Int32} {m : Int32} (h : ∀ w ∈ ws, ¬ m < w) : kf_since ws m = kf_lw ws := since_fold h
theorem until_none {ws : List Int32} {m now : Int32} (h : ∀ w ∈ ws, w ≤ m) : kf_until ws m now = now := by
  induction ws with
  | nil => rfl
  | cons w ws ih =>
    show (if w ≤ m then kf_until ws m now else w - 1) = now
    rw [if_pos (h w (List.mem_cons_self ..))]
    exact ih (fun x hx => h x (List.mem_cons_of_mem _ hx))
theorem dr_none {ms : List qkMsg} {E : qkEnt} (h : ∀ m ∈ ms, m.2.2 ≤ E.2.2.2.2) : kf_dr ms E = -1 := by
  unfold kf_dr
  have : ms.filter (fun m => kf_gone m E) = [] := by
    rw [List.filter_eq_nil_iff]
    intro m hm
    unfold kf_gone
    simp only [decide_eq_true_eq]
    exact fun z => z.2 (h m hm)
  rw [this]
  rfl
/-- the first entry dropped where there are six -/
def kf_drop1 (c : List qkEnt) : List qkEnt := if c.length = 6 then c.eraseIdx 0 else c
theorem km_shift {A : qkA} {S : qm_S} {K : qm_S → Prop} (h : cE A S) (hi : iE A) (h6 : (aCache A).length = 6) (hk : ∀ S' : qm_S, (∀ k, k ≠ 39 → S'.1 k = S.1 k) → (∀ k, k < 40 ∨ 51 < k → S'.2 k = S.2 k) → cE (sCache A ((aCache A).eraseIdx 0)) S' → K S') : ∀ X2 : Int32 → qm_S → Prop, (∀ (x3 : Int32) (S4 : qm_S), ((6 ≤ x3 → K ((upd S4.1 39 ((S4.1 39) - 1), S4.2))) ∧ (¬ 6 ≤ x3 → T_X8_moves x3 (x3 - 1) S4 (fun S6 => X2 (x3 + 1) S6))) → X2 x3 S4) → X2 1 S := by
  intro X hX
  obtain ⟨hn, hE⟩ := h
  refine lp (P := fun n st => X (nI n) st) 6 (fun n st => 1 ≤ n ∧ st.1 = S.1 ∧ (∀ k, k < 40 ∨ 51 < k → st.2 k = S.2 k) ∧ (∀ (i : Nat) (E : qkEnt), i + 1 < n → (aCache A)[i + 1]? = some E → rEnt (aWr A) (aMsg A) st i E) ∧ ∀ (i : Nat) (E : qkEnt), n ≤ i → (aCache A)[i]? = some E → rEnt (aWr A) (aMsg A) st i E) (fun n st hn' hI ih => ?_) 1 S (by omega) ⟨Nat.le_refl _, rfl, fun _ _ => rfl, fun i E z _ => absurd z (by omega), fun i E _ hE' => hE i E hE'⟩
  obtain ⟨h1, g1, g2, g3, g4⟩ := hI
  refine hX _ _ (pk_le 6 n (fun z => ?_) (fun z => ?_))
  · obtain rfl : n = 6 := by omega
    refine hk _ (fun k hk => (un1 hk).trans (by rw [g1])) g2 ⟨?_, fun i E hE' => ?_⟩
    · show upd st.1 39 (st.1 39 - 1) 39 = nI ((aCache A).eraseIdx 0).length
      rw [upd_s, g1, hn, h6, List.length_eraseIdx_of_lt (by omega), h6]
      rfl
    · have hE2 : ((aCache A).eraseIdx 0)[i]? = some E := hE'
      rw [List.getElem?_eraseIdx_of_ge (Nat.zero_le _)] at hE2
      have := (List.getElem?_eq_some_iff.mp hE2).1
      exact g3 i E (by omega) hE2
  · have hg : (aCache A)[n]? = some ((aCache A)[n]'(by omega)) := List.getElem?_eq_getElem (by omega)
    obtain ⟨hs6, hcl, hrs⟩ := hi.2 _ (List.getElem_mem (show n < (aCache A).length by omega))
    rw [s_1 h1]
    refine km_moves (by omega) (by omega) ?_
    rw [nI_1]
    refine ih z _ ⟨by omega, g1, fun k hk => (mv_fr hk).trans (g2 k hk), fun i E hi' hE' => ?_, fun i E hi' hE' => ?_⟩
    · by_cases e : i + 1 = n
      · rw [e, hg] at hE'
        cases hE'
        rw [show i = n - 1 by omega]
        exact mv_to (g4 n _ (Nat.le_refl _) hg) hrs.1 hcl
      · have hm' := hi.2 E (List.mem_of_getElem? hE')
        exact mv_ot (g3 i E (by omega) hE') (by omega) hm'.2.2.1 hm'.2.1
    · have hm' := hi.2 E (List.mem_of_getElem? hE')
      exact mv_ot (g4 i E (by omega) hE') (by omega) hm'.2.2.1 hm'.2.1
theorem km_remembers {A : qkA} {S : qm_S} {T M i src : Nat} {raw : List qkRow} {K : qm_S → Prop} (h : qkB A S) (hi : qkI T M A) (hTM : T ≤ 2 ^ 20 ∧ M ≤ 2 ^ 20) (hs : (aSeat A)[i]? = some (nI src)) (h6 : src < 6) (hraw : rSeat S i raw)
    (hk : ∀ S' : qm_S, (∀ k, k ≠ 39 → S'.1 k = S.1 k) → (∀ k, k < 40 ∨ 51 < k → S'.2 k = S.2 k) → cE (sCache A (kf_drop1 (aCache A) ++ [(src, kf_sent A (nI i) src, raw, aQ A 15, aQ A 14)])) S' → K S') : T_X8_remembers (nI i) S K := by
  obtain ⟨hT, hL, hR, hS, hD, hE, hB⟩ := h
  have iD' := hi.2.2.2.1
  have iE' := hi.2.2.2.2.2.2
  have hil := (List.getElem?_eq_some_iff.mp hs).1
  have h3 := iD'.1.1
  have hc4l := iD'.2.2.1.1
  have h23 := hD.1.2 i _ hs
  obtain ⟨_, m, hmM, hm14, hw, _, hent, hmo⟩ := hi.2.2.2.2.2.1
  obtain ⟨r1, r2, r3⟩ := hraw
  have hsent4 : (kf_sent A (nI i) src).length ≤ 4 := by
    rw [sent_eq]
    exact Nat.le_trans (List.length_filter_le _ _) iD'.2.2.1.1
  have hlw : kf_since (aWr A src) (aQ A 14) = kf_lw (aWr A src) := since_last (fun w hw' => by
    obtain ⟨j, _, hj, e⟩ := (hw src h6).2 w hw'
    rw [e, hm14]
    exact nI_nlt hj (by omega))
  have hun : kf_until (aWr A src) (aQ A 14) (-1) = -1 := until_none (fun w hw' => by
    obtain ⟨j, _, hj, e⟩ := (hw src h6).2 w hw'
    rw [e, hm14]
    exact nI_le hj (by omega))
  have hdr : kf_dr (aMsg A) (src, kf_sent A (nI i) src, raw, aQ A 15, aQ A 14) = -1 := dr_none (fun x hx => by
    obtain ⟨j, hj, e⟩ := hmo x hx
    show x.2.2 ≤ aQ A 14
    rw [e, hm14]
    exact nI_le hj (by omega))
  unfold T_X8_remembers
  intro J hJ
  suffices main : ∀ S8 : qm_S, (∀ k, k ≠ 39 → S8.1 k = S.1 k) → (∀ k, k < 40 ∨ 51 < k → S8.2 k = S.2 k) → cE (sCache A (kf_drop1 (aCache A))) S8 → J S8 by
    rw [hE.1]
    refine pj_eq (aCache A).length 6 (fun q => main S (fun _ _ => rfl) (fun _ _ => rfl) ?_) (fun q => km_shift hE iE' q (fun S' f1 f2 hc => main S' f1 f2 ?_)) rfl rfl (by have := iE'.1; omega)
    · unfold kf_drop1
      rw [if_neg q]
      exact hE
    · unfold kf_drop1
      rw [if_pos q]
      exact hc
  intro S8 f1 f2 hc
  obtain ⟨hn, hE8⟩ := hc
  have hn : S8.1 39 = nI (kf_drop1 (aCache A)).length := hn
  have hE8 : ∀ (e : Nat) (E : qkEnt), (kf_drop1 (aCache A))[e]? = some E → rEnt (aWr A) (aMsg A) S8 e E := hE8
  have hd5 : (kf_drop1 (aCache A)).length ≤ 5 := by
    unfold kf_drop1
    have := iE'.1
    by_cases q : (aCache A).length = 6
    · rw [if_pos q, List.length_eraseIdx_of_lt (by omega)]
      omega
    · rw [if_neg q]
      omega
  have hdi : ∀ E ∈ kf_drop1 (aCache A), E.2.1.length ≤ 4 ∧ E.2.2.1.length ≤ 12 := by
    intro E hE'
    have : E ∈ aCache A := by
      unfold kf_drop1 at hE'
      by_cases q : (aCache A).length = 6
      · rw [if_pos q] at hE'
        exact List.mem_of_mem_eraseIdx hE'
      · rw [if_neg q] at hE'
        exact hE'
    exact ⟨(iE'.2 E this).2.1, (iE'.2 E this).2.2.1⟩
  refine hJ S8 ?_
  generalize hc0 : kf_drop1 (aCache A) = c0 at hn hE8 hd5 hdi hk
  generalize he : c0.length = e at hn hd5
  have g23 : S8.2 23 i = nI src := by rw [f2 23 (by omega)]; exact h23
  have g5 : S8.2 5 src = kf_lw (aWr A src) := by rw [f2 5 (by omega)]; exact (hS src h6).2.1
  have g57 : S8.2 57 i = nI raw.length := by rw [f2 57 (by omega)]; exact r1
  have g8 : S8.1 8 = aQ A 15 := by rw [f1 8 (by decide)]; exact hT.2.2.1
  rw [hn, nI_clamp (n := i) (by omega), g23, nI_clamp (n := e) (by omega), nI_clamp (n := src) (by omega), g5, g57, g8]
  refine ⟨pk_in i 3 (by omega), pk_in e 6 (by omega), pk_in e 6 (by omega), pk_in src 6 h6, pk_in e 6 (by omega), pk_in e 6 (by omega), pk_in e 6 (by omega), pk_in i 3 (by omega), pk_in e 6 (by omega), ?_⟩
  generalize hT0 : ((upd S8.1 39 (nI e + 1), qm_uA (qm_uA (qm_uA (qm_uA (qm_uA (qm_uA S8.2 40 (upd (S8.2 40) e (nI src))) 41 (upd (S8.2 41) e (aQ A 15))) 42 (upd (S8.2 42) e (kf_lw (aWr A src)))) 43 (upd (S8.2 43) e (-1))) 44 (upd (S8.2 44) e (-1))) 45 (upd (S8.2 45) e (nI raw.length))) : qm_S) = T0
  have t57 : T0.2 57 = S8.2 57 := by rw [← hT0]; rfl
  have t58 : T0.2 58 = S8.2 58 := by rw [← hT0]; rfl
  have t59 : T0.2 59 = S8.2 59 := by rw [← hT0]; rfl
  intro X hX
  refine lp (P := fun n st => X (nI n) st) raw.length (fun n st => st = (T0.1, qm_uA T0.2 46 (kcq (12 * i) (12 * e) n (T0.2 58) (T0.2 46)))) (fun n st hn' hI ih => ?_) 0 _ (Nat.zero_le _) ?_
  rotate_left
  · rw [kcq_0]
    exact Prod.ext rfl (uA_id (f := T0.2) (k := 46)).symm
  subst hI
  refine hX _ _ ?_
  rw [un2 (show (57 : Nat) ≠ 46 by decide), t57, g57]
  refine pk_le raw.length n (fun z => ?_) (fun z => ?_)
  rotate_left
  · have ih' := ih z _ rfl
    rw [← kcq_s] at ih'
    rw [m_12, m_12, nI_add, nI_add, nI_1, nI_clamp (n := 12 * e + n) (by omega), nI_clamp (n := 12 * i + n) (by omega)]
    refine ⟨ik 36 (by omega), ik 72 (by omega), ?_⟩
    dsimp only
    rw [uA_s, uA_2, uA_n (show (58 : Nat) ≠ 46 by decide)]
    exact ih'
  obtain rfl : n = raw.length := by omega
  clear ih hX
  intro Y hY
  refine lp (P := fun n st => Y (nI n) st) (4 * raw.length) (fun n st => st = (T0.1, qm_uA (qm_uA T0.2 46 (kcq (12 * i) (12 * e) raw.length (T0.2 58) (T0.2 46))) 47 (kcq (48 * i) (48 * e) n (T0.2 59) (T0.2 47)))) (fun n st hn' hI ih => ?_) 0 _ (Nat.zero_le _) ?_
  rotate_left
  · rw [kcq_0]
    exact Prod.ext rfl (uA_id (f := qm_uA T0.2 46 (kcq (12 * i) (12 * e) raw.length (T0.2 58) (T0.2 46))) (k := 47)).symm
  subst hI
  refine hY _ _ ?_
  rw [un2 (show (57 : Nat) ≠ 47 by decide), uA_n (show (57 : Nat) ≠ 46 by decide), t57, g57, t_4]
  refine pk_le (raw.length * 4) n (fun z => ?_) (fun z => ?_)
  rotate_left
  · have ih' := ih (by omega) _ rfl
    rw [← kcq_s] at ih'
    rw [m_48, m_48, nI_add, nI_add, nI_1, nI_clamp (n := 48 * e + n) (by omega), nI_clamp (n := 48 * i + n) (by omega)]
    refine ⟨ik 144 (by omega), ik 288 (by omega), ?_⟩
    dsimp only
    rw [uA_s, uA_2, uA_n (show (59 : Nat) ≠ 47 by decide), uA_n (show (59 : Nat) ≠ 46 by decide)]
    exact ih'
  obtain rfl : n = 4 * raw.length := by omega
  clear ih hY
  generalize hT2 : ((T0.1, qm_uA (qm_uA T0.2 46 (kcq (12 * i) (12 * e) raw.length (T0.2 58) (T0.2 46))) 47 (kcq (48 * i) (48 * e) (4 * raw.length) (T0.2 59) (T0.2 47))) : qm_S) = T2
  refine ⟨pk_in e 6 (by omega), ?_⟩
  intro Z hZ
  have u : ∀ k, (k < 40 ∨ 51 < k) → T2.2 k = S.2 k := by
    intro k hk
    rw [← hT2, ← hT0]
    dsimp only
    rw [uA_n (by omega), uA_n (by omega), uA_n (by omega), uA_n (by omega), uA_n (by omega), uA_n (by omega), uA_n (by omega), uA_n (by omega)]
    exact f2 k hk
  have u1 : ∀ k, k ≠ 39 → T2.1 k = S.1 k := by
    intro k hk
    rw [← hT2, ← hT0]
    exact (upd_n hk).trans (f1 k hk)
  have u48 : ∀ k, k = 48 ∨ k = 49 ∨ k = 50 ∨ k = 51 → T2.2 k = S8.2 k := by
    intro k hk
    rw [← hT2, ← hT0]
    dsimp only
    rw [uA_n (by omega), uA_n (by omega), uA_n (by omega), uA_n (by omega), uA_n (by omega), uA_n (by omega), uA_n (by omega), uA_n (by omega)]
  refine lp (P := fun n st => Z (nI n) st) (aCond A).length (fun n st => st.1 = T2.1 ∧ (∀ k, k ≠ 48 → k ≠ 49 → k ≠ 50 → k ≠ 51 → st.2 k = T2.2 k) ∧ st.2 48 e = nI (((aCond A).take n).filter (kf_ps i src)).length ∧ (∀ j, j ≠ e → st.2 48 j = T2.2 48 j) ∧ (∀ p, p < 4 * e ∨ 4 * e + 4 ≤ p → st.2 49 p = T2.2 49 p ∧ st.2 50 p = T2.2 50 p ∧ st.2 51 p = T2.2 51 p) ∧ ∀ (j : Nat) (c : qkC), (((aCond A).take n).filter (kf_ps i src))[j]? = some c → st.2 49 (4 * e + j) = c.2.1 ∧ st.2 50 (4 * e + j) = c.2.2.1 ∧ st.2 51 (4 * e + j) = c.2.2.2) (fun n st hn' hI ih => ?_) 0 _ (Nat.zero_le _) ⟨rfl, fun k a _ _ _ => un2 a, ?_, fun j hj => ?_, fun p hp => ⟨rfl, rfl, rfl⟩, fun j c hc => by simp at hc⟩
  · obtain ⟨w1, w2, w3, w4, w5, w6⟩ := hI
    have x29 : st.1 29 = nI (aCond A).length := by
      rw [w1, u1 29 (by decide)]
      exact hD.2.2.1.1
    have hDs : cD A st := hD.fr (fun k a b => by rw [w1]; exact u1 k (by omega)) (fun k a b => by rw [w2 k (by omega) (by omega) (by omega) (by omega)]; exact u k (by omega))
    refine hZ _ _ ?_
    rw [x29]
    refine pk_le (aCond A).length n (fun z => ?_) (fun z => ?_)
    · obtain rfl : n = (aCond A).length := by omega
      rw [List.take_length, ← sent_eq] at w3 w6
      refine hk st (fun k hk => by rw [w1]; exact u1 k hk) (fun k hk => by rw [w2 k (by omega) (by omega) (by omega) (by omega)]; exact u k hk) ⟨?_, fun j E hj => ?_⟩
      · rw [w1, ← hT2, ← hT0]
        show nI e + 1 = nI (c0 ++ [_]).length
        rw [nI_1, List.length_append, he]
        rfl
      · have z40 : st.2 40 = upd (S8.2 40) e (nI src) := by rw [w2 40 (by decide) (by decide) (by decide) (by decide), ← hT2, ← hT0]; rfl
        have z41 : st.2 41 = upd (S8.2 41) e (aQ A 15) := by rw [w2 41 (by decide) (by decide) (by decide) (by decide), ← hT2, ← hT0]; rfl
        have z42 : st.2 42 = upd (S8.2 42) e (kf_lw (aWr A src)) := by rw [w2 42 (by decide) (by decide) (by decide) (by decide), ← hT2, ← hT0]; rfl
        have z43 : st.2 43 = upd (S8.2 43) e (-1) := by rw [w2 43 (by decide) (by decide) (by decide) (by decide), ← hT2, ← hT0]; rfl
        have z44 : st.2 44 = upd (S8.2 44) e (-1) := by rw [w2 44 (by decide) (by decide) (by decide) (by decide), ← hT2, ← hT0]; rfl
        have z45 : st.2 45 = upd (S8.2 45) e (nI raw.length) := by rw [w2 45 (by decide) (by decide) (by decide) (by decide), ← hT2, ← hT0]; rfl
        have z46 : st.2 46 = kcq (12 * i) (12 * e) raw.length (S.2 58) (S8.2 46) := by rw [w2 46 (by decide) (by decide) (by decide) (by decide), ← hT2, ← f2 58 (by omega), ← t58, ← hT0]; rfl
        have z47 : st.2 47 = kcq (48 * i) (48 * e) (4 * raw.length) (S.2 59) (S8.2 47) := by rw [w2 47 (by decide) (by decide) (by decide) (by decide), ← hT2, ← f2 59 (by omega), ← t59, ← hT0]; rfl
        have hj' : (c0 ++ [(src, kf_sent A (nI i) src, raw, aQ A 15, aQ A 14)])[j]? = some E := hj
        have hW : aWr (sCache A (c0 ++ [(src, kf_sent A (nI i) src, raw, aQ A 15, aQ A 14)])) = aWr A := rfl
        have hM : aMsg (sCache A (c0 ++ [(src, kf_sent A (nI i) src, raw, aQ A 15, aQ A 14)])) = aMsg A := rfl
        rw [hW, hM]
        rcases app_at hj' with ⟨hne, hj0⟩ | ⟨ej, rfl⟩
        · rw [he] at hne
          obtain ⟨b0, b1, b2', b3, b4, b5, b6, b7, b8⟩ := hE8 j E hj0
          obtain ⟨hc4, hr12⟩ := hdi E (List.mem_of_getElem? hj0)
          have hjl := (List.getElem?_eq_some_iff.mp hj0).1
          refine ⟨by rw [z40, upd_n hne]; exact b0, by rw [z41, upd_n hne]; exact b1, by rw [z42, upd_n hne]; exact b2', by rw [z43, upd_n hne]; exact b3, by rw [z44, upd_n hne]; exact b4, by rw [z45, upd_n hne]; exact b5, ?_, by rw [w4 j hne, u48 48 (by omega)]; exact b7, fun q c hq => ?_⟩
          · rw [z46, z47]
            exact b6.cp (fun k hk => kcq_out (by omega)) (fun k hk c hc => kcq_out (by omega))
          · have hql := (List.getElem?_eq_some_iff.mp hq).1
            obtain ⟨y1, y2, y3⟩ := w5 (4 * j + q) (by omega)
            obtain ⟨x1, x2, x3⟩ := b8 q c hq
            rw [y1, y2, y3, u48 49 (by omega), u48 50 (by omega), u48 51 (by omega)]
            exact ⟨x1, x2, x3⟩
        · rw [he] at ej
          subst ej
          refine ⟨by rw [z40]; exact upd_s, by rw [z41]; exact upd_s, by rw [z42, upd_s]; exact hlw.symm, by rw [z43, upd_s]; exact hun.symm, by rw [z44, upd_s]; exact hdr.symm, by rw [z45]; exact upd_s, ?_, w3, w6⟩
          rw [z46, z47]
          refine r3.cp (fun k hk => kcq_in hk) (fun k hk c hc => ?_)
          have e1 : 4 * (12 * j + k) + c = 48 * j + (4 * k + c) := by omega
          have e2 : 4 * (12 * i + k) + c = 48 * i + (4 * k + c) := by omega
          have hk : k < raw.length := hk
          rw [e1, e2]
          exact kcq_in (by omega)
    · have hg : (aCond A)[n]? = some (aCond A)[n] := List.getElem?_eq_getElem z
      obtain ⟨ee, pp⟩ := fm_sent hDs iD' hg hs h6
      obtain ⟨c0', c1, c2, c3⟩ := hDs.2.2.1.2 n _ hg
      have h4 := iD'.2.2.1.1
      have hcnt : (((aCond A).take n).filter (kf_ps i src)).length ≤ n := by
        refine Nat.le_trans (List.length_filter_le _ _) ?_
        rw [List.length_take]
        exact Nat.min_le_left _ _
      rw [ee, w3, m_4, nI_add, nI_1, nI_clamp (n := n) (by omega), c1, c2, c3, nI_clamp (n := 4 * e + (((aCond A).take n).filter (kf_ps i src)).length) (by omega), nI_1]
      refine ⟨pp, bz (fun q => ih z _ ?_) (fun q => ⟨pk_in n 4 (by omega), ik 24 (by omega), pk_in n 4 (by omega), ik 24 (by omega), pk_in n 4 (by omega), ik 24 (by omega), ih z _ ?_⟩)⟩
      · have hfl : ((aCond A).take (n + 1)).filter (kf_ps i src) = ((aCond A).take n).filter (kf_ps i src) := by
          rw [take_s z, List.filter_append, List.filter_cons_of_neg (by unfold kf_ps; rw [q]; simp)]
          simp
        rw [hfl]
        exact ⟨w1, w2, w3, w4, w5, w6⟩
      · have hfl : ((aCond A).take (n + 1)).filter (kf_ps i src) = ((aCond A).take n).filter (kf_ps i src) ++ [(aCond A)[n]] := by
          rw [take_s z, List.filter_append, List.filter_cons_of_pos (by unfold kf_ps; rw [q])]
          simp
        rw [hfl]
        generalize (((aCond A).take n).filter (kf_ps i src)) = L at w3 w6 hcnt
        refine ⟨w1, fun k a b c d => ?_, ?_, fun j hj => Eq.trans (upd_n hj) (w4 j hj), fun p hp => ?_, fun j c hc => ?_⟩
        · show qm_uA (qm_uA (qm_uA (qm_uA st.2 49 _) 50 _) 51 _) 48 _ k = _
          rw [uA_n a, uA_n d, uA_n c, uA_n b]
          exact w2 k a b c d
        · show upd (st.2 48) e _ e = _
          rw [upd_s, List.length_append]
          rfl
        · obtain ⟨y1, y2, y3⟩ := w5 p hp
          exact ⟨Eq.trans (upd_n (by omega)) y1, Eq.trans (upd_n (by omega)) y2, Eq.trans (upd_n (by omega)) y3⟩
        · rcases app_at hc with ⟨hne, hc⟩ | ⟨ej, rfl⟩
          · obtain ⟨y1, y2, y3⟩ := w6 j c hc
            exact ⟨Eq.trans (upd_n (by omega)) y1, Eq.trans (upd_n (by omega)) y2, Eq.trans (upd_n (by omega)) y3⟩
          · rw [ej]
            exact ⟨upd_s, upd_s, upd_s⟩
  · show upd (T2.2 48) e 0 e = _
    rw [upd_s]
    rfl
  · exact upd_n hj
