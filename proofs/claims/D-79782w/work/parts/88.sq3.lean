/-! SQ 3: the reference's entries: moved, dropped, told of a write -/
set_option maxRecDepth 100000
def kcp (a b n : Nat) (g : Nat → Int32) : Nat → Int32 := fun j => if b ≤ j ∧ j < b + n then g (a + (j - b)) else g j
theorem kcp_0 {a b : Nat} {g : Nat → Int32} : kcp a b 0 g = g := by
  funext j
  unfold kcp
  rw [if_neg (by omega)]
theorem kcp_s {a b n : Nat} {g : Nat → Int32} (h : ¬ (b ≤ a + n ∧ a + n < b + n)) : upd (kcp a b n g) (b + n) (kcp a b n g (a + n)) = kcp a b (n + 1) g := by
  funext j
  by_cases e : j = b + n
  · subst e
    rw [upd_s]
    unfold kcp
    rw [if_neg h, if_pos (by omega)]
    congr 1
    omega
  · rw [upd_n e]
    unfold kcp
    by_cases c : b ≤ j ∧ j < b + n
    · rw [if_pos c, if_pos (by omega)]
    · rw [if_neg c, if_neg (by omega)]
theorem kcp_in {a b n k : Nat} {g : Nat → Int32} (h : k < n) : kcp a b n g (b + k) = g (a + k) := by
  unfold kcp
  rw [if_pos (by omega)]
  congr 1
  omega
theorem kcp_out {a b n j : Nat} {g : Nat → Int32} (h : j < b ∨ b + n ≤ j) : kcp a b n g j = g j := by
  unfold kcp
  rw [if_neg (by omega)]
theorem uA_id {f : Nat → Nat → Int32} {k : Nat} : qm_uA f k (f k) = f := by
  funext j
  by_cases e : j = k
  · subst e; exact uA_s
  · exact uA_n e
def f_mv1 (S : qm_S) (e to : Nat) : qm_S := ((S.1, qm_uA (qm_uA (qm_uA (qm_uA (qm_uA (qm_uA (qm_uA S.2 40 (upd (S.2 40) to (S.2 40 e))) 41 (upd (S.2 41) to (S.2 41 e))) 42 (upd (S.2 42) to (S.2 42 e))) 43 (upd (S.2 43) to (S.2 43 e))) 44 (upd (S.2 44) to (S.2 44 e))) 45 (upd (S.2 45) to (S.2 45 e))) 48 (upd (S.2 48) to (S.2 48 e))))
def f_mv2 (S : qm_S) (e to : Nat) : qm_S := ((f_mv1 S e to).1, qm_uA (f_mv1 S e to).2 46 (kcp (12 * e) (12 * to) 12 (S.2 46)))
def f_mv3 (S : qm_S) (e to : Nat) : qm_S := ((f_mv2 S e to).1, qm_uA (f_mv2 S e to).2 47 (kcp (48 * e) (48 * to) 48 (S.2 47)))
def f_mv4 (S : qm_S) (e to n : Nat) : qm_S := ((f_mv3 S e to).1, qm_uA (qm_uA (qm_uA (f_mv3 S e to).2 49 (kcp (4 * e) (4 * to) n (S.2 49))) 50 (kcp (4 * e) (4 * to) n (S.2 50))) 51 (kcp (4 * e) (4 * to) n (S.2 51)))
theorem km_moves {S : qm_S} {e to : Nat} {K : qm_S → Prop} (he : e < 6) (ht : to < 6) (hk : K (f_mv4 S e to 4)) : T_X8_moves (nI e) (nI to) S K := by
  unfold T_X8_moves
  rw [nI_clamp (n := e) (by omega), nI_clamp (n := to) (by omega)]
  refine ⟨pk_in e 6 he, pk_in to 6 ht, pk_in e 6 he, pk_in to 6 ht, pk_in e 6 he, pk_in to 6 ht, pk_in e 6 he, pk_in to 6 ht, pk_in e 6 he, pk_in to 6 ht, pk_in e 6 he, pk_in to 6 ht, pk_in e 6 he, pk_in to 6 ht, ?_⟩
  intro X hX
  refine lp (P := fun n s => X (nI n) s) 12 (fun n s => s = ((f_mv1 S e to).1, qm_uA (f_mv1 S e to).2 46 (kcp (12 * e) (12 * to) n (S.2 46)))) (fun n s hn hI ih => ?_) 0 _ (by omega) ?_
  · subst hI
    refine hX _ _ (pk_le 12 n (fun z => ?_) (fun z => ?_))
    · obtain rfl : n = 12 := by omega
      clear ih hX
      intro Y hY
      refine lp (P := fun n s => Y (nI n) s) 48 (fun n s => s = ((f_mv2 S e to).1, qm_uA (f_mv2 S e to).2 47 (kcp (48 * e) (48 * to) n (S.2 47)))) (fun n s hn hI ih => ?_) 0 _ (by omega) ?_
      · subst hI
        refine hY _ _ (pk_le 48 n (fun z => ?_) (fun z => ?_))
        · obtain rfl : n = 48 := by omega
          clear ih hY
          intro Z hZ
          refine lp (P := fun n s => Z (nI n) s) 4 (fun n s => s = f_mv4 S e to n) (fun n s hn hI ih => ?_) 0 _ (by omega) ?_
          · subst hI
            refine hZ _ _ (pk_le 4 n (fun z => ?_) (fun z => ?_))
            · obtain rfl : n = 4 := by omega
              exact hk
            · have ih' := ih z _ rfl
              have hd : ¬ (4 * to ≤ 4 * e + n ∧ 4 * e + n < 4 * to + n) := by omega
              rw [m_4, m_4, nI_add, nI_add, nI_1, nI_clamp (n := 4 * to + n) (by omega), nI_clamp (n := 4 * e + n) (by omega)]
              refine ⟨ik 24 (by omega), ik 24 (by omega), ik 24 (by omega), ik 24 (by omega), ik 24 (by omega), ik 24 (by omega), ?_⟩
              have e1 : (((f_mv4 S e to n).1, qm_uA (qm_uA (qm_uA (f_mv4 S e to n).2 49 (upd ((f_mv4 S e to n).2 49) (4 * to + n) ((f_mv4 S e to n).2 49 (4 * e + n)))) 50 (upd ((f_mv4 S e to n).2 50) (4 * to + n) ((f_mv4 S e to n).2 50 (4 * e + n)))) 51 (upd ((f_mv4 S e to n).2 51) (4 * to + n) ((f_mv4 S e to n).2 51 (4 * e + n)))) : qm_S) = f_mv4 S e to (n + 1) := by
                have a49 : (f_mv4 S e to n).2 49 = kcp (4 * e) (4 * to) n (S.2 49) := rfl
                have a50 : (f_mv4 S e to n).2 50 = kcp (4 * e) (4 * to) n (S.2 50) := rfl
                have a51 : (f_mv4 S e to n).2 51 = kcp (4 * e) (4 * to) n (S.2 51) := rfl
                rw [a49, a50, a51, kcp_s hd, kcp_s hd, kcp_s hd]
                refine Prod.ext rfl ?_
                funext k
                show qm_uA (qm_uA (qm_uA (f_mv4 S e to n).2 49 _) 50 _) 51 _ k = _
                unfold f_mv4
                dsimp only
                by_cases k51 : k = 51
                · subst k51; rw [uA_s, uA_s]
                · rw [uA_n k51, uA_n k51]
                  by_cases k50 : k = 50
                  · subst k50; rw [uA_s, uA_s]
                  · rw [uA_n k50, uA_n k50]
                    by_cases k49 : k = 49
                    · subst k49; rw [uA_s, uA_s]
                    · rw [uA_n k49, uA_n k49, uA_n k51, uA_n k50, uA_n k49]
              rw [← e1] at ih'
              exact ih'
          · unfold f_mv4
            rw [kcp_0, kcp_0, kcp_0]
            have b : ∀ f : Nat → Nat → Int32, f 49 = S.2 49 → f 50 = S.2 50 → f 51 = S.2 51 → f = qm_uA (qm_uA (qm_uA f 49 (S.2 49)) 50 (S.2 50)) 51 (S.2 51) := by
              intro f h1 h2 h3
              rw [← h1, uA_id, ← h2, uA_id, ← h3, uA_id]
            exact Prod.ext rfl (b _ rfl rfl rfl)
        · have ih' := ih z _ rfl
          rw [← kcp_s (by omega)] at ih'
          rw [m_48, m_48, nI_add, nI_add, nI_1, nI_clamp (n := 48 * to + n) (by omega), nI_clamp (n := 48 * e + n) (by omega)]
          refine ⟨ik 288 (by omega), ik 288 (by omega), ?_⟩
          dsimp only
          rw [uA_s, uA_2]
          exact ih'
      · rw [kcp_0]
        exact Prod.ext rfl (uA_id (f := (f_mv2 S e to).2) (k := 47)).symm
    · have ih' := ih z _ rfl
      rw [← kcp_s (by omega)] at ih'
      rw [m_12, m_12, nI_add, nI_add, nI_1, nI_clamp (n := 12 * to + n) (by omega), nI_clamp (n := 12 * e + n) (by omega)]
      refine ⟨ik 72 (by omega), ik 72 (by omega), ?_⟩
      dsimp only
      rw [uA_s, uA_2]
      exact ih'
  · rw [kcp_0]
    exact Prod.ext rfl (uA_id (f := (f_mv1 S e to).2) (k := 46)).symm
theorem mv_fr {S : qm_S} {e to k : Nat} (h : k < 40 ∨ 51 < k) : (f_mv4 S e to 4).2 k = S.2 k := by
  unfold f_mv4 f_mv3 f_mv2 f_mv1
  dsimp only
  iterate 12 rw [uA_n (by omega)]
theorem rRows.cp {mk ce mk' ce' : Nat → Int32} {o o' : Nat} {rows : List qkRow} (h : rRows mk ce o rows) (h1 : ∀ k, k < rows.length → mk' (o' + k) = mk (o + k)) (h2 : ∀ k, k < rows.length → ∀ c, c < 4 → ce' (4 * (o' + k) + c) = ce (4 * (o + k) + c)) : rRows mk' ce' o' rows := by
  intro k r hr
  have hk : k < rows.length := (List.getElem?_eq_some_iff.mp hr).1
  obtain ⟨a, b⟩ := h k r hr
  exact ⟨(h1 k hk).trans a, fun c hc => (h2 k hk c hc).trans (b c hc)⟩
theorem mv_to {W : Nat → List Int32} {ms : List qkMsg} {S : qm_S} {e to : Nat} {E : qkEnt} (h : rEnt W ms S e E) (hr : E.2.2.1.length ≤ 12) (hc : E.2.1.length ≤ 4) : rEnt W ms (f_mv4 S e to 4) to E := by
  obtain ⟨a0, a1, a2, a3, a4, a5, a6, a7, a8⟩ := h
  refine ⟨Eq.trans upd_s a0, Eq.trans upd_s a1, Eq.trans upd_s a2, Eq.trans upd_s a3, Eq.trans upd_s a4, Eq.trans upd_s a5, ?_, Eq.trans upd_s a7, fun j c hj => ?_⟩
  · refine a6.cp (fun k hk => ?_) (fun k hk c hc => ?_)
    · exact kcp_in (by omega)
    · have : 4 * (12 * to + k) + c = 48 * to + (4 * k + c) := by omega
      rw [this]
      have : 4 * (12 * e + k) + c = 48 * e + (4 * k + c) := by omega
      rw [this]
      exact kcp_in (by omega)
  · have hj' : j < E.2.1.length := (List.getElem?_eq_some_iff.mp hj).1
    obtain ⟨b1, b2', b3⟩ := a8 j c hj
    exact ⟨Eq.trans (kcp_in (by omega)) b1, Eq.trans (kcp_in (by omega)) b2', Eq.trans (kcp_in (by omega)) b3⟩
theorem mv_ot {W : Nat → List Int32} {ms : List qkMsg} {S : qm_S} {e to i : Nat} {E : qkEnt} (h : rEnt W ms S i E) (hi : i ≠ to) (hr : E.2.2.1.length ≤ 12) (hc : E.2.1.length ≤ 4) : rEnt W ms (f_mv4 S e to 4) i E := by
  obtain ⟨a0, a1, a2, a3, a4, a5, a6, a7, a8⟩ := h
  refine ⟨Eq.trans (upd_n hi) a0, Eq.trans (upd_n hi) a1, Eq.trans (upd_n hi) a2, Eq.trans (upd_n hi) a3, Eq.trans (upd_n hi) a4, Eq.trans (upd_n hi) a5, ?_, Eq.trans (upd_n hi) a7, fun j c hj => ?_⟩
  · refine a6.cp (fun k hk => ?_) (fun k hk c hc => ?_)
    · exact kcp_out (by omega)
    · exact kcp_out (by omega)
  · have hj' : j < E.2.1.length := (List.getElem?_eq_some_iff.mp hj).1
    obtain ⟨b1, b2', b3⟩ := a8 j c hj
    exact ⟨Eq.trans (kcp_out (by omega)) b1, Eq.trans (kcp_out (by omega)) b2', Eq.trans (kcp_out (by omega)) b3⟩
/-! when messages drop an entry -/
theorem dr_fold {t : Int32} : ∀ (L : List qkMsg) (a : Int32), (∀ m ∈ L, ¬ m.2.1 = -1) → ((¬ L.foldl (fun a m => if a = -1 then m.2.1 else if a ≤ m.2.1 then a else m.2.1) a = -1 ∧ L.foldl (fun a m => if a = -1 then m.2.1 else if a ≤ m.2.1 then a else m.2.1) a ≤ t) ↔ ((¬ a = -1 ∧ a ≤ t) ∨ ∃ m ∈ L, m.2.1 ≤ t)) := by
  intro L
  induction L with
  | nil => intro a _; simp
  | cons x L ih =>
    intro a h
    have hx := h x (List.mem_cons_self ..)
    rw [List.foldl_cons, ih _ (fun m hm => h m (List.mem_cons_of_mem _ hm))]
    have one : (¬ (if a = -1 then x.2.1 else if a ≤ x.2.1 then a else x.2.1) = -1 ∧ (if a = -1 then x.2.1 else if a ≤ x.2.1 then a else x.2.1) ≤ t) ↔ ((¬ a = -1 ∧ a ≤ t) ∨ x.2.1 ≤ t) := by
      by_cases ha : a = -1
      · rw [if_pos ha]
        constructor
        · exact fun z => Or.inr z.2
        · rintro (z | z)
          · exact absurd ha z.1
          · exact ⟨hx, z⟩
      · rw [if_neg ha]
        by_cases hl : a ≤ x.2.1
        · rw [if_pos hl]
          constructor
          · exact fun z => Or.inl z
          · rintro (z | z)
            · exact z
            · exact ⟨ha, Int32.le_trans hl z⟩
        · rw [if_neg hl]
          constructor
          · exact fun z => Or.inr z.2
          · rintro (z | z)
            · exact ⟨hx, Int32.le_trans (Int32.le_of_lt (Int32.not_le.mp hl)) z.2⟩
            · exact ⟨hx, z⟩
    rw [one]
    constructor
    · rintro ((z | z) | ⟨m, hm, z⟩)
      · exact Or.inl z
      · exact Or.inr ⟨x, List.mem_cons_self .., z⟩
      · exact Or.inr ⟨m, List.mem_cons_of_mem _ hm, z⟩
    · rintro (z | ⟨m, hm, z⟩)
      · exact Or.inl (Or.inl z)
      · rcases List.mem_cons.mp hm with rfl | hm
        · exact Or.inl (Or.inr z)
        · exact Or.inr ⟨m, hm, z⟩
theorem dr_le {ms : List qkMsg} {E : qkEnt} {t : Int32} (h : ∀ m ∈ ms, ¬ m.2.1 = -1) : (¬ kf_dr ms E = -1 ∧ kf_dr ms E ≤ t) ↔ ∃ m ∈ ms, kf_gone m E = true ∧ m.2.1 ≤ t := by
  unfold kf_dr
  rw [dr_fold _ _ (fun m hm => h m (List.mem_filter.mp hm).1)]
  constructor
  · rintro (z | ⟨m, hm, z⟩)
    · exact absurd rfl z.1
    · exact ⟨m, (List.mem_filter.mp hm).1, (List.mem_filter.mp hm).2, z⟩
  · rintro ⟨m, hm, hg, z⟩
    exact Or.inr ⟨m, List.mem_filter.mpr ⟨hm, hg⟩, z⟩
theorem dr_flt {ms : List qkMsg} {E : qkEnt} {t : Int32} (h : ∀ m ∈ ms, kf_gone m E = true → t < m.2.1) : kf_dr (ms.filter (fun m => decide (t < m.2.1))) E = kf_dr ms E := by
  unfold kf_dr
  rw [List.filter_filter]
  congr 1
  apply List.filter_congr
  intro m hm
  cases hg : kf_gone m E with
  | false => simp
  | true => simp [h m hm hg]
def kf_keepE (A : qkA) (t : Int32) (E : qkEnt) : Bool := (aMsg A).all (fun m => !(decide (¬ t < m.2.1) && kf_gone m E)) && decide (t - E.2.2.2.1 ≤ aLn A (E.1 / 2) 5)
theorem goTo_cache {A : qkA} {t : Int32} : aCache (kf_goTo A t) = (aCache A).filter (kf_keepE A t) := by
  show ((aCache A).filter _).filter _ = _
  rw [List.filter_filter]
  apply List.filter_congr
  intro E _
  unfold kf_keepE
  rw [Bool.and_comm]
theorem keep_dr {A : qkA} {t : Int32} {E : qkEnt} (h : ∀ m ∈ aMsg A, ¬ m.2.1 = -1) : ((aMsg A).all (fun m => !(decide (¬ t < m.2.1) && kf_gone m E)) = true) ↔ ¬ (¬ kf_dr (aMsg A) E = -1 ∧ kf_dr (aMsg A) E ≤ t) := by
  rw [dr_le h, List.all_eq_true]
  constructor
  · rintro z ⟨m, hm, hg, hl⟩
    have := z m hm
    rw [hg] at this
    simp only [Bool.and_true, Bool.not_eq_true', decide_eq_false_iff_not, Classical.not_not] at this
    exact absurd this (Int32.not_lt.mpr hl)
  · intro z m hm
    cases hg : kf_gone m E with
    | false => simp
    | true =>
      have : t < m.2.1 := by
        apply Classical.byContradiction
        intro q
        exact z ⟨m, hm, hg, Int32.not_lt.mp q⟩
      simp [this]
theorem rEnt.fr {W : Nat → List Int32} {ms : List qkMsg} {S S' : qm_S} {e : Nat} {E : qkEnt} (h : rEnt W ms S e E) (hf : ∀ k, 40 ≤ k → k ≤ 51 → S'.2 k = S.2 k) : rEnt W ms S' e E := by
  unfold rEnt at h ⊢
  rw [hf 40 (by omega) (by omega), hf 41 (by omega) (by omega), hf 42 (by omega) (by omega), hf 43 (by omega) (by omega), hf 44 (by omega) (by omega), hf 45 (by omega) (by omega), hf 46 (by omega) (by omega), hf 47 (by omega) (by omega), hf 48 (by omega) (by omega), hf 49 (by omega) (by omega), hf 50 (by omega) (by omega), hf 51 (by omega) (by omega)]
  exact h
theorem km_drops {A : qkA} {S : qm_S} {t : Int32} {K : qm_S → Prop} (ht : S.1 8 = t) (hL : ∀ l, l < 3 → S.2 13 l = aLn A l 5) (hE : cE A S) (hi : iE A) (hdue : ∀ m ∈ aMsg A, ¬ m.2.1 = -1) (hk : ∀ S' : qm_S, (∀ k, k ≠ 39 → S'.1 k = S.1 k) → (∀ k, k < 40 ∨ 51 < k → S'.2 k = S.2 k) → cE (kf_goTo A t) S' → K S') : T_X8_drops S K := by
  obtain ⟨hn, hE⟩ := hE
  obtain ⟨h6, hi⟩ := hi
  unfold T_X8_drops
  intro X hX
  refine lp (P := fun n (p : Int32 × qm_S) => X p.1 (nI n) p.2) (aCache A).length (fun n p => p.1 = nI (((aCache A).take n).filter (kf_keepE A t)).length ∧ p.2.1 = S.1 ∧ (∀ k, k < 40 ∨ 51 < k → p.2.2 k = S.2 k) ∧ (∀ (i : Nat) (E : qkEnt), (((aCache A).take n).filter (kf_keepE A t))[i]? = some E → rEnt (aWr A) (aMsg A) p.2 i E) ∧ ∀ (i : Nat) (E : qkEnt), n ≤ i → (aCache A)[i]? = some E → rEnt (aWr A) (aMsg A) p.2 i E) (fun n p hn' hI ih => ?_) 0 (0, S) (Nat.zero_le _) ⟨rfl, rfl, fun _ _ => rfl, fun i E z => by simp at z, fun i E _ z => hE i E z⟩
  obtain ⟨x, s⟩ := p
  obtain ⟨h1, h2, h3, h4, h5⟩ := hI
  dsimp only at h1 h2 h3 h4 h5 ⊢
  have hst : (((aCache A).take n).filter (kf_keepE A t)).length ≤ n := by
    refine Nat.le_trans (List.length_filter_le _ _) ?_
    rw [List.length_take]
    exact Nat.min_le_left _ _
  refine hX _ _ _ ?_
  rw [h2, hn, ht]
  refine pk_le _ n (fun z => ?_) (fun z => ?_)
  · obtain rfl : n = (aCache A).length := by omega
    rw [List.take_length] at h1 h4
    refine hk _ (fun k hk => upd_n hk) h3 ?_
    refine ⟨?_, fun i E hE' => ?_⟩
    · rw [goTo_cache]
      exact (show upd S.1 39 x 39 = x from upd_s).trans h1
    · rw [goTo_cache] at hE'
      have hr := h4 i E hE'
      have hkeep := (List.mem_filter.mp (List.mem_of_getElem? hE')).2
      unfold kf_keepE at hkeep
      rw [Bool.and_eq_true, List.all_eq_true] at hkeep
      have hd : kf_dr ((aMsg A).filter (fun m => decide (t < m.2.1))) E = kf_dr (aMsg A) E := dr_flt (fun m hm hg => by
        have := hkeep.1 m hm
        rw [hg] at this
        simpa using this)
      have hr' : rEnt (aWr A) (aMsg A) (upd s.1 39 x, s.2) i E := hr
      obtain ⟨a0, a1, a2, a3, a4, a5⟩ := hr'
      exact ⟨a0, a1, a2, a3, a4.trans hd.symm, a5⟩
  · have hg : (aCache A)[n]? = some (aCache A)[n] := List.getElem?_eq_getElem z
    have hr := h5 n _ (Nat.le_refl _) hg
    obtain ⟨hs6, hcl, hrs⟩ := hi _ (List.getElem_mem z)
    generalize hEE : (aCache A)[n] = E at hg hr hs6 hcl hrs
    have htk : (aCache A).take (n + 1) = (aCache A).take n ++ [E] := by rw [take_s z, hEE]
    have r0 := hr
    obtain ⟨a0, a1, _, _, a4, _⟩ := r0
    rw [nI_clamp (n := n) (by omega), a0, a1, a4, fm_half hs6, nI_clamp (n := E.1 / 2) (by omega), h3 13 (by omega), hL _ (by omega), nI_1]
    refine ⟨pk_in n 6 (by omega), ⟨fun _ => ⟨pk_in n 6 (by omega), pk_in n 6 (by omega), pk_in (E.1 / 2) 3 (by omega)⟩, fun _ => ⟨fun _ => trivial, fun _ => ⟨pk_in n 6 (by omega), pk_in n 6 (by omega), pk_in (E.1 / 2) 3 (by omega)⟩⟩⟩, ?_⟩
    have hkd := keep_dr (t := t) (E := E) hdue
    have hkv : kf_keepE A t E = true ↔ ((if kf_dr (aMsg A) E = -1 then if t - E.2.2.2.1 ≤ aLn A (E.1 / 2) 5 then (0 : Int32) else (1 : Int32) else if kf_dr (aMsg A) E ≤ t then (1 : Int32) else if t - E.2.2.2.1 ≤ aLn A (E.1 / 2) 5 then (0 : Int32) else (1 : Int32)) = 0) := by
      unfold kf_keepE
      rw [Bool.and_eq_true, hkd]
      by_cases c1 : kf_dr (aMsg A) E = -1 <;> by_cases c2 : kf_dr (aMsg A) E ≤ t <;> by_cases c3 : t - E.2.2.2.1 ≤ aLn A (E.1 / 2) 5 <;> simp [c1, c2, c3]
    refine ⟨fun q => ih z (_, _) ?_, fun q => ?_⟩
    · have hkf : kf_keepE A t E = false := by
        cases hh : kf_keepE A t E with
        | false => rfl
        | true => exact absurd (hkv.mp hh) q
      have hfl : ((aCache A).take (n + 1)).filter (kf_keepE A t) = ((aCache A).take n).filter (kf_keepE A t) := by
        rw [htk, List.filter_append, List.filter_cons_of_neg (by rw [hkf]; simp)]
        simp
      rw [hfl]
      exact ⟨h1, h2, h3, h4, fun i E' hi' => h5 i E' (by omega)⟩
    · have hkt := hkv.mpr q
      have hfl : ((aCache A).take (n + 1)).filter (kf_keepE A t) = ((aCache A).take n).filter (kf_keepE A t) ++ [E] := by
        rw [htk, List.filter_append, List.filter_cons_of_pos hkt]
        simp
      rw [h1]
      refine km_moves (by omega) (by omega) ?_
      rw [nI_1]
      refine ih z (_, _) ?_
      rw [hfl]
      refine ⟨by rw [List.length_append]; rfl, h2, fun k hk => (mv_fr hk).trans (h3 k hk), fun i E' hE' => ?_, fun i E' hi' hE' => ?_⟩
      · by_cases hil : i < (((aCache A).take n).filter (kf_keepE A t)).length
        · rw [List.getElem?_append_left hil] at hE'
          have hm := (List.mem_filter.mp (List.mem_of_getElem? hE')).1
          have hm' := hi E' (List.mem_of_mem_take hm)
          exact mv_ot (h4 i E' hE') (by omega) hm'.2.2.1 hm'.2.1
        · rw [List.getElem?_append_right (by omega)] at hE'
          have hi0 : i - (((aCache A).take n).filter (kf_keepE A t)).length = 0 := by
            have := (List.getElem?_eq_some_iff.mp hE').1
            simp at this
            omega
          rw [hi0] at hE'
          simp at hE'
          subst hE'
          obtain rfl : i = (((aCache A).take n).filter (kf_keepE A t)).length := by omega
          exact mv_to hr hrs.1 hcl
      · have hm' := hi E' (List.mem_of_getElem? hE')
        exact mv_ot (h5 i E' (by omega) hE') (by omega) hm'.2.2.1 hm'.2.1
