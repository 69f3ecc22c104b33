/-! SQ 28: a question asked on both sides, joined; all data as they are -/
set_option maxRecDepth 100000
theorem open_0 {ss : Nat → qkSeat} (h : ∀ i, kf_taken ss i = false) : ∀ {k : Nat}, kf_open ss k = 0 := by
  intro k
  induction k with
  | zero => rfl
  | succ k ih =>
    show kf_open ss k ||| (if kf_taken ss k = true then kf_bit (ss k) else 0) = 0
    rw [ih, h k, if_neg (by decide)]
    decide
theorem cnt_all {ss : Nat → qkSeat} : ∀ {k : Nat}, kf_cnt ss k = k → ∀ i, i < k → kf_taken ss i = true := by
  intro k
  induction k with
  | zero => intro _ i hi; omega
  | succ k ih =>
    intro h i hi
    have hs : kf_cnt ss (k + 1) = kf_cnt ss k + (if kf_taken ss k = true then 1 else 0) := rfl
    have hle := cnt_le (ss := ss) (k := k)
    cases ht : kf_taken ss k with
    | false =>
      rw [ht, if_neg (by decide)] at hs
      omega
    | true =>
      rw [ht, if_pos rfl] at hs
      by_cases e : i = k
      · rw [e]; exact ht
      · exact ih (by omega) i (by omega)
/-- the seats taken, one after the other -/
theorem km_asks {M n : Nat} {b d fresh : Int32} {Fin : qm_S → Prop} {X10 : qm_S → Prop} (hn1 : 1 ≤ n) (hn3 : n ≤ 3) (hd : ¬ d = -1) (hM : M ≤ 2 ^ 20) (hX : ∀ S11 : qm_S, ((S11.1 22 ≤ S11.1 83 → Fin S11) ∧ (¬ S11.1 22 ≤ S11.1 83 → T_X8_nextSeat S11 (fun r22 => T_X8_takes r22 S11 (fun S24 => X10 S24)))) → X10 S11) :
    ∀ (m T : Nat) (A : qkA) (ss : Nat → qkSeat) (f : Nat → Int32) (tk : List Int32) (S : qm_S), tk.length + m = n → kf_cnt ss n = tk.length → qkB A S → qkI T M A → T + 600 * m ≤ 2 ^ 20 → cQ A S n ss f tk b d fresh → (aSeat A).length = n → (∀ i r, r ∈ (ss i).2.2.2.1 → qkVal r) → (∀ i, (ss i).2.2.2.1.length ≤ 12) → (∀ S' : qm_S, qkB (kf_takes n fresh b d m A ss f tk).1 S' → qkI (T + 600 * m) M (kf_takes n fresh b d m A ss f tk).1 → cQ (kf_takes n fresh b d m A ss f tk).1 S' n (kf_takes n fresh b d m A ss f tk).2.1 (kf_takes n fresh b d m A ss f tk).2.2.1 (kf_takes n fresh b d m A ss f tk).2.2.2 b d fresh → (kf_takes n fresh b d m A ss f tk).2.2.2.length = n → kf_cnt (kf_takes n fresh b d m A ss f tk).2.1 n = n → (aSeat (kf_takes n fresh b d m A ss f tk).1).length = n → (∀ i r, r ∈ ((kf_takes n fresh b d m A ss f tk).2.1 i).2.2.2.1 → qkVal r) → (∀ k, k ≠ 4 → k ≠ 5 → k ≠ 6 → (kf_takes n fresh b d m A ss f tk).2.2.1 k = f k) → S'.1 0 = S.1 0 → qkTk A (kf_takes n fresh b d m A ss f tk).1 → Fin S') → X10 S := by
  intro m
  induction m with
  | zero =>
    intro T A ss f tk S hm hc h hi hT hQ hn hv hv12 hk
    have hfin := hk S h hi hQ (show tk.length = n by omega) (show kf_cnt ss n = n by omega) hn hv (fun _ _ _ _ => rfl) rfl qkTk.rf
    obtain ⟨_, _, _, _, ⟨q83, _⟩, _⟩ := hQ
    refine hX S ?_
    rw [h.2.2.2.2.1.1.1, hn, q83]
    exact pk_le n tk.length (fun _ => hfin) (fun z => absurd z (by omega))
  | succ m ih =>
    intro T A ss f tk S hm hc h hi hT hQ hn hv hv12 hk
    have hQ' := hQ
    obtain ⟨qSt, qTk, _, _, ⟨q83, _⟩, _⟩ := hQ'
    refine hX S ?_
    rw [h.2.2.2.2.1.1.1, hn, q83]
    refine pk_le n tk.length (fun z => absurd z (by omega)) (fun _ => ?_)
    refine km_nextSeat h.2.2.2.2.1 h.2.2.2.1 hi.2.2.2.1 hi.1 hn qSt qTk ?_
    obtain ⟨i, hnx⟩ := next_some (A := A) (n := n) (k := n) (cnt_some (ss := ss) (by omega))
    have hnx' : kf_next A n ss = some i := hnx
    have hin := nextS_lt hnx
    have hnt := next_not hnx
    rw [hnx']
    show T_X8_takes (nI i) S _
    have htk : kf_takes n fresh b d (m + 1) A ss f tk = kf_takes n fresh b d m (kf_take A n ss i fresh b d f).1 (qkU ss i (kf_take A n ss i fresh b d f).2.2) (kf_take A n ss i fresh b d f).2.1 (tk ++ [10 * (kf_take A n ss i fresh b d f).2.2.2.2.2.2 0 + (kf_take A n ss i fresh b d f).2.2.2.2.2.2 7]) := by
      rw [kf_takes, hnx']
    rw [htk] at hk
    have h6 := (qSt i hin).2.1
    have hs4 : (ss i).2.2.1.length ≤ 4 := by
      rw [(qSt i hin).2.2.2.1, sent_eq]
      exact Nat.le_trans (List.length_filter_le _ _) hi.2.2.2.1.2.2.1.1
    have hlks : ∀ l ∈ aLink A, (∃ q, q < 4 ∧ l.2.1 = nI q) ∧ (∃ q, q < 4 ∧ l.2.2.2 = nI q) := fun l hl => ⟨(hi.2.2.2.1.2.1.2 l hl).2.1, (hi.2.2.2.1.2.1.2 l hl).2.2⟩
    obtain ⟨_, t2, t3⟩ := take_gd (n := n) (ss := ss) (i := i) (fresh := fresh) (b := b) (d := d) (f := f) hi.gd h6 hlks
    have hi' : qkI (T + 600) M (kf_take A n ss i fresh b d f).1 := hi.take h6 hs4 hv12 (by omega)
    have h5 := take_5 (A := A) (n := n) (ss := ss) (i := i) (fresh := fresh) (b := b) (d := d) (f := f)
    refine km_takes (T := T) (M := M) h hi ⟨by omega, hM⟩ hn hQ hd hin hnt (by omega) (fun S1 hB1 hQ1 e0 => ?_)
    refine ih (T + 600) _ _ _ _ S1 ?_ ?_ hB1 hi' (by omega) hQ1 ?_ (fun j r hr => ?_) (fun j => ?_) (fun S' g1 g2 g3 g4 g5 g6 g7 g8 g9 g10 => hk S' g1 (g2.le (by omega) (Nat.le_refl _)) g3 g4 g5 g6 g7 (fun k a1 a2 a3 => (g8 k a1 a2 a3).trans (pre_f a1 a2 a3)) (g9.trans e0) (t3.tr g10))
    · rw [List.length_append]
      simp only [List.length_cons, List.length_nil]
      omega
    · rw [cnt_upd hnt h5 hin, hc, List.length_append]
      rfl
    · rw [t3.2.2.2.2.2.1]
      exact hn
    · by_cases e : j = i
      · subst e
        rw [qkU_s] at hr
        exact t2.2 r hr
      · rw [qkU_n e] at hr
        exact hv j r hr
    · by_cases e : j = i
      · subst e
        rw [qkU_s]
        exact t2.1
      · rw [qkU_n e]
        exact hv12 j
theorem fm_drafted {A : qkA} {S : qm_S} (hD : cD A S) (hi : iD A) : f_X8_isDrafted S = b2 (decide (¬ ((aSeat A).length = 0 ∨ (aOut A).length = 0))) := by
  have h3 := hi.1.1
  have h3' := hi.2.2.2.1.1
  unfold f_X8_isDrafted
  rw [hD.1.1, hD.2.2.2.1]
  by_cases c1 : (aSeat A).length = 0
  · rw [if_pos (by rw [c1]; exact Int32.le_refl 0), b2_f (decide_eq_false (fun z => z (Or.inl c1)))]
  · rw [if_neg (nI_nle (by omega) (by omega))]
    by_cases c2 : (aOut A).length = 0
    · rw [if_pos (by rw [c2]; exact Int32.le_refl 0), b2_f (decide_eq_false (fun z => z (Or.inr c2)))]
    · rw [if_neg (nI_nle (by omega) (by omega))]
      have hz : ¬ ((aSeat A).length = 0 ∨ (aOut A).length = 0) := fun z => z.elim c1 c2
      exact (b2_t (decide_eq_true hz)).symm
theorem km_ask {A : qkA} {v : qkAns} {S : qm_S} {T M : Nat} {a b : Int32} {K : Int32 → qm_S → Prop} (h : cC A v S) (hi : qkI T M A) (hTM : T + 1800 ≤ 2 ^ 20 ∧ M ≤ 2 ^ 20)
    (hk1 : ¬ kf_askc A a b = 0 → ∀ S' : qm_S, S'.1 0 = nI (kf_askc A a b) → cC A v S' → K 0 S')
    (hk0 : kf_askc A a b = 0 → ∀ S' : qm_S, S'.1 0 = 0 → cC (kf_askt A a b).1 (kf_ans A a b) S' → qkI (T + 1800) M (kf_askt A a b).1 → K (nI (kf_ans A a b).1.length) S') : T_X8_ask a b S K := by
  have hB := h.b
  have iD' := hi.2.2.2.1
  have h3 := iD'.1.1
  unfold T_X8_ask
  rw [fm_in, fm_in, fm_drafted hB.2.2.2.2.1 iD']
  unfold kf_askc at hk1 hk0
  have bad : ∀ e : Nat, e < 2 ^ 31 → ¬ e = 0 → (∀ S' : qm_S, S'.1 0 = nI e → cC A v S' → K 0 S') → ∀ P : Prop, (nI e ≤ 0 → P) ∧ (¬ nI e ≤ 0 → K 0 (upd S.1 0 (nI e), S.2)) := fun e he h0 hk P => ⟨fun z => absurd z (nI_nle (by omega) he), fun _ => hk _ us1 h⟩
  by_cases c1 : a < 0 ∨ 200 < a
  · rw [if_pos c1] at hk1
    rw [if_pos (d0 (fun z => c1.elim z.1 z.2))]
    exact bad 1 (by decide) (by decide) (hk1 (by decide)) _
  rw [if_neg c1] at hk1 hk0
  rw [if_neg (d1 (not_or.mp c1))]
  by_cases c2 : b < 0 ∨ 200 < b
  · rw [if_pos c2] at hk1
    rw [if_pos (d0 (fun z => c2.elim z.1 z.2))]
    exact bad 1 (by decide) (by decide) (hk1 (by decide)) _
  rw [if_neg c2] at hk1 hk0
  rw [if_neg (d1 (not_or.mp c2))]
  by_cases c3 : (aSeat A).length = 0 ∨ (aOut A).length = 0
  · rw [if_pos c3] at hk1
    rw [if_pos (d0 (fun z => z c3))]
    exact bad 2 (by decide) (by decide) (hk1 (by decide)) _
  rw [if_neg c3] at hk0
  rw [if_neg (d1 c3)]
  clear hk1 bad
  have hk0 := hk0 rfl
  refine ⟨fun _ => ?_, fun z => absurd (Int32.le_refl 0) z⟩
  have hbn : ¬ b = -1 := fun z => by
    rw [z] at c2
    exact c2 (Or.inl (by decide))
  rw [not_or] at c3
  obtain ⟨lim, hl1, hl40, hlim⟩ := iD'.2.2.2.2.1
  generalize hn : (aSeat A).length = n at c3 h3
  intro X6 hX6
  -- isTaken cleared
  generalize hS0 : ((upd (upd (upd (upd (upd (upd (upd (upd (upd S.1 0 0) 52 (S.1 8)) 53 a) 54 b) 78 0) 80 0) 81 0) 82 0) 83 0, S.2) : qm_S) = S0
  have s1 : ∀ k, k ≠ 0 → k ≠ 52 → k ≠ 53 → k ≠ 54 → k ≠ 78 → k ≠ 80 → k ≠ 81 → k ≠ 82 → k ≠ 83 → S0.1 k = S.1 k := fun k h0 h1 h2 h3 h4 h5 h6 h7 h8 => by
    rw [← hS0]
    show upd (upd (upd (upd (upd (upd (upd (upd (upd S.1 0 0) 52 (S.1 8)) 53 a) 54 b) 78 0) 80 0) 81 0) 82 0) 83 0 k = S.1 k
    rw [upd_n h8, upd_n h7, upd_n h6, upd_n h5, upd_n h4, upd_n h3, upd_n h2, upd_n h1, upd_n h0]
  have s2 : S0.2 = S.2 := by rw [← hS0]
  have s0 : S0.1 0 = 0 := by rw [← hS0]; rfl
  have s52 : S0.1 52 = aQ A 15 := by
    rw [← hS0]
    exact Eq.trans (show _ = S.1 8 from rfl) hB.1.2.2.1
  have s53 : S0.1 53 = a := by rw [← hS0]; rfl
  have s54 : S0.1 54 = b := by rw [← hS0]; rfl
  have s78 : S0.1 78 = 0 := by rw [← hS0]; rfl
  have s80 : S0.1 80 = 0 := by rw [← hS0]; rfl
  have s81 : S0.1 81 = 0 := by rw [← hS0]; rfl
  have s82 : S0.1 82 = 0 := by rw [← hS0]; rfl
  have s83 : S0.1 83 = 0 := by rw [← hS0]; rfl
  refine lp (P := fun k st => X6 (nI k) st) 3 (fun k st => st.1 = S0.1 ∧ (∀ j, j ≠ 56 → st.2 j = S.2 j) ∧ ∀ j, j < k → st.2 56 j = 0) (fun k st hk3 hI ih => ?_) 0 S0 (by omega) ⟨rfl, fun j _ => by rw [s2], fun j hj => absurd hj (by omega)⟩
  obtain ⟨f1, f2, f3⟩ := hI
  refine hX6 _ _ (pk_le 3 k (fun z => ?_) (fun z => ?_))
  rotate_left
  · rw [nI_clamp (n := k) (by omega), nI_1]
    refine ⟨pk_in k 3 (by omega), ih z _ ⟨f1, fun j hj => (un2 hj).trans (f2 j hj), fun j hj => ?_⟩⟩
    by_cases e : j = k
    · rw [e]
      exact upd_s
    · exact Eq.trans (upd_n e) (f3 j (by omega))
  obtain rfl : k = 3 := by omega
  clear ih hX6
  intro X10 hX10
  have hB1 : qkB A st := hB.fr (fun k hk => by rw [f1]; exact s1 k (by omega) (by omega) (by omega) (by omega) (by omega) (by omega) (by omega) (by omega) (by omega)) (fun k hk => f2 k (by omega))
  have hnotk : ∀ i, kf_taken (kf_ss0 A) i = false := fun i => by
    unfold kf_taken
    exact decide_eq_false (fun z => z rfl)
  have hQ1 : cQ A st n (kf_ss0 A) kf_f0 [] (aQ A 15) b a := by
    refine ⟨fun i hin => ?_, fun i hin => ?_, fun i hin => ⟨fun _ => ⟨rfl, rfl⟩, fun z => absurd rfl z⟩, ⟨?_, ?_, ?_⟩, ⟨?_, fun k x hx => by simp at hx⟩, ?_, ?_, ?_, ?_⟩
    · obtain ⟨s, hs6, hg, _, e4⟩ := sno_of iD' (show i < (aSeat A).length by omega)
      refine ⟨?_, ?_, rfl, rfl, rfl⟩
      · show (aSeat A)[i]? = some (nI (kf_sno A i))
        rw [e4]
        exact hg
      · show kf_sno A i < 6
        rw [e4]
        exact hs6
    · rw [hnotk, f3 i (by omega)]
      rfl
    · rw [f1]; exact s80
    · rw [f1]; exact s81
    · rw [f1]; exact s82
    · rw [f1]; exact s83
    · rw [f1, open_0 hnotk]; exact s78
    · rw [f1]; exact s52
    · rw [f1]; exact s53
    · rw [f1]; exact s54
  have hT0 : st.1 0 = 0 := by rw [f1]; exact s0
  refine km_asks (M := M) (n := n) (b := aQ A 15) (d := b) (fresh := a) (by omega) h3 hbn hTM.2 hX10 n T A (kf_ss0 A) kf_f0 [] st (Nat.zero_add n) cnt_0 hB1 hi (by omega) hQ1 hn (fun i r hr => by simp [kf_ss0] at hr) (fun i => Nat.zero_le _) (fun S' g1 g2 g3 g4 g5 g6 g7 g8 g9 g10 => ?_)
  have e9 : S'.1 0 = 0 := g9.trans hT0
  have hat : kf_takes n a (aQ A 15) b n A (kf_ss0 A) kf_f0 [] = kf_askt A a b := by unfold kf_askt; rw [hn]
  rw [hat] at g1 g2 g3 g4 g5 g6 g7 g8 g10
  have hans : kf_ans A a b = (kf_vs (kf_askt A a b).1 (kf_askt A a b).2.1 n, upd (kf_gath (kf_askt A a b).1 (kf_askt A a b).2.1 (kf_askt A a b).2.2.1 n).2.2 3 (kf_claim (kf_gath (kf_askt A a b).1 (kf_askt A a b).2.1 (kf_askt A a b).2.2.1 n)), (kf_askt A a b).2.2.2) := by
    unfold kf_ans kf_askp
    rw [hn]
  rw [hans] at hk0
  generalize kf_askt A a b = Z at g1 g2 g3 g4 g5 g6 g7 g8 g10 hk0
  obtain ⟨A', ss', f', tk'⟩ := Z
  dsimp only at g1 g2 g3 g4 g5 g6 g7 g8 g10 hk0
  have g2 : qkI (T + 1800) M A' := g2.le (by omega) (Nat.le_refl _)
  clear hX10 hQ1 hB1 hat hans hS0
  have iD2 := g2.2.2.2.1
  obtain ⟨lim', hl1', hl40', hlim'⟩ := iD2.2.2.2.2.1
  have hG3 := g3
  obtain ⟨qSt, qTk, qSe, qf, ⟨q83, qtk⟩, q78, _⟩ := g3
  have hall := cnt_all g5
  -- the rows as they came
  have hex : ∀ i, ∃ raw, i < n → rSeat S' i raw ∧ (ss' i).2.2.2.1 = raw.filter (fun r => kf_all (kf_own A' (nI i)) r) := fun i => by
    by_cases hin : i < n
    · have h5 : ¬ (ss' i).2.2.2.2 5 = 0 := by
        have := hall i hin
        unfold kf_taken at this
        exact of_decide_eq_true this
      obtain ⟨raw, r1, r2, _⟩ := (qSe i hin).2 h5
      exact ⟨raw, fun _ => ⟨r1, r2⟩⟩
    · exact ⟨[], fun z => absurd z hin⟩
  obtain ⟨raw, hraw⟩ := Classical.axiomOfChoice hex
  have hwk : kf_walk A' (fun s => (raw s).filter (fun r => kf_all (kf_own A' (nI s)) r)) n = kf_walk A' (fun s => (ss' s).2.2.2.1) n := walk_cg (fun i hin => (hraw i hin).2.symm)
  have ho1 : 1 ≤ (aOut A').length := by
    rw [g10.2.2.2.2.2.2.2.2.1]
    omega
  refine km_makes (A := A') (here := 1) (n := n) (lim := lim') (raw := raw) g1.2.2.2.2.1 iD2 g6 (by omega) ho1 g1.1.2.2.2.1 g1.1.2.2.2.2 hlim' hl40' (fun s hs => Or.inl ⟨rfl, (hraw s hs).1⟩) (fun s hs r hr => by rw [← (hraw s hs).2] at hr; exact g7 s r hr) (fun S2 k1 k2 k68 k69 k70 => ?_)
  rw [hwk] at k68 k70
  have hvs : kf_vs A' ss' n = (kf_walk A' (fun s => (ss' s).2.2.2.1) n).take lim' := by
    unfold kf_vs
    rw [hlim', nI_clamp (n := lim') (by omega)]
  rw [← hvs] at k68 k70
  have hvl : (kf_vs A' ss' n).length ≤ 40 := by
    rw [hvs, List.length_take]
    omega
  intro X14 hX14
  refine lp (P := fun k u => X14 (nI k) u) 120 (fun k u => u = (upd (upd S2.1 75 (S2.1 68)) 76 (S2.1 69), qm_uA S2.2 77 (kcq 0 0 k (S2.2 70) (S2.2 77)))) (fun k u hk hI ih => ?_) 0 _ (by omega) ?_
  rotate_left
  · rw [kcq_0]
    exact Prod.ext rfl (uA_id (f := S2.2) (k := 77)).symm
  subst hI
  refine hX14 _ _ (pk_le 120 k (fun z => ?_) (fun z => ?_))
  rotate_left
  · have ih' := ih z _ rfl
    rw [← kcq_s (n := k), Nat.zero_add] at ih'
    rw [nI_clamp (n := k) (by omega), nI_1]
    refine ⟨ik 120 (by omega), ik 120 (by omega), ?_⟩
    dsimp only
    rw [uA_s, uA_2, uA_n (show (70 : Nat) ≠ 77 by decide)]
    exact ih'
  obtain rfl : k = 120 := by omega
  clear ih hX14
  have cl : ∀ k, k ≠ 68 → k ≠ 69 → k ≠ 71 → k ≠ 75 → k ≠ 76 → upd (upd S2.1 75 (S2.1 68)) 76 (S2.1 69) k = S'.1 k := fun k a1 a2 a3 a4 a5 => by
    rw [upd_n a5, upd_n a4]
    exact k1 k a1 a2 a3
  have cl2 : ∀ k, k ≠ 65 → k ≠ 66 → k ≠ 67 → k ≠ 70 → k ≠ 72 → k ≠ 73 → k ≠ 74 → k ≠ 77 → (qm_uA S2.2 77 (kcq 0 0 120 (S2.2 70) (S2.2 77))) k = S'.2 k := fun k a1 a2 a3 a4 a5 a6 a7 a8 => by
    rw [uA_n a8]
    exact k2 k a1 a2 a3 a4 a5 a6 a7
  have hf2 : f' 2 = 0 := g8 2 (by decide) (by decide) (by decide)
  refine km_claimed (A := A') (ss := ss') (f := f') h3 ?_ ?_ ?_ hf2 hall (fun i hin => (qSt i hin).2.2.2.2) (fun i hin h6 => ?_) ?_
  · exact (cl 22 (by decide) (by decide) (by decide) (by decide) (by decide)).trans (g1.2.2.2.2.1.1.1.trans (by rw [g6]))
  · exact (cl 7 (by decide) (by decide) (by decide) (by decide) (by decide)).trans g1.1.2.1
  · exact (cl 78 (by decide) (by decide) (by decide) (by decide) (by decide)).trans q78
  · have h5 : ¬ (ss' i).2.2.2.2 5 = 0 := by
      have := hall i hin
      unfold kf_taken at this
      exact of_decide_eq_true this
    obtain ⟨_, _, _, r3⟩ := (qSe i hin).2 h5
    obtain ⟨y1, y2⟩ := r3 h6
    exact ⟨(congrFun (cl2 60 (by decide) (by decide) (by decide) (by decide) (by decide) (by decide) (by decide) (by decide)) i).trans y1, (congrFun (cl2 61 (by decide) (by decide) (by decide) (by decide) (by decide) (by decide) (by decide) (by decide)) i).trans y2⟩
  · have e75 : upd (upd S2.1 75 (S2.1 68)) 76 (S2.1 69) 75 = nI (kf_vs A' ss' n).length := by
      rw [upd_n (by decide), upd_s]
      exact k68
    dsimp only
    rw [e75]
    have hfin : ∀ k, k ≠ 68 → k ≠ 69 → k ≠ 71 → k ≠ 75 → k ≠ 76 → k ≠ 79 → upd (upd (upd S2.1 75 (S2.1 68)) 76 (S2.1 69)) 79 (kf_claim (kf_gath A' ss' f' n)) k = S'.1 k := fun k a1 a2 a3 a4 a5 a6 => by
      rw [upd_n a6]
      exact cl k a1 a2 a3 a4 a5
    refine hk0 _ ((hfin 0 (by decide) (by decide) (by decide) (by decide) (by decide) (by decide)).trans e9) ((g1.fr (fun k hk => hfin k (by omega) (by omega) (by omega) (by omega) (by omega) (by omega)) (fun k hk => cl2 k (by omega) (by omega) (by omega) (by omega) (by omega) (by omega) (by omega) (by omega))).c ⟨?_, hvl, fun k r hr => ?_, ?_, ?_, ?_, ?_, ?_, ?_, by rw [g4]; exact h3, fun k x hx => ?_⟩) g2
    · exact (un1 (show (75 : Nat) ≠ 79 by decide)).trans e75
    · obtain ⟨w1, w2⟩ := k70 k r hr
      have hkl := (List.getElem?_eq_some_iff.mp hr).1
      have hw3 : r.1 ≤ 3 := by
        rw [w1]
        unfold kf_wide
        split
        · exact iD2.2.2.2.1.1
        · exact Nat.le_refl 3
      have hkl : k < (kf_vs A' ss' n).length := hkl
      refine ⟨?_, hw3, fun c hc => ?_⟩
      · show S2.1 69 = _
        rw [k69, w1]
      · show kcq 0 0 120 (S2.2 70) (S2.2 77) (3 * k + c) = r.2 c
        have := kcq_in (a := 0) (b := 0) (n := 120) (k := 3 * k + c) (g := S2.2 70) (h := S2.2 77) (by omega)
        rw [Nat.zero_add] at this
        rw [this]
        exact w2 c hc
    · refine (hfin 78 (by decide) (by decide) (by decide) (by decide) (by decide) (by decide)).trans (q78.trans ?_)
      exact (gath_2 hf2 hall).symm
    · exact us1.trans (show _ = upd (kf_gath A' ss' f' n).2.2 3 (kf_claim (kf_gath A' ss' f' n)) 3 from upd_s.symm)
    · refine (hfin 80 (by decide) (by decide) (by decide) (by decide) (by decide) (by decide)).trans (qf.1.trans ?_)
      exact (gath_f (show (4 : Nat) ≠ 2 by decide)).symm
    · refine (hfin 81 (by decide) (by decide) (by decide) (by decide) (by decide) (by decide)).trans (qf.2.1.trans ?_)
      exact (gath_f (show (5 : Nat) ≠ 2 by decide)).symm
    · refine (hfin 82 (by decide) (by decide) (by decide) (by decide) (by decide) (by decide)).trans (qf.2.2.trans ?_)
      exact (gath_f (show (6 : Nat) ≠ 2 by decide)).symm
    · exact (hfin 83 (by decide) (by decide) (by decide) (by decide) (by decide) (by decide)).trans q83
    · exact (congrFun (cl2 84 (by decide) (by decide) (by decide) (by decide) (by decide) (by decide) (by decide) (by decide)) k).trans (qtk k x hx)
