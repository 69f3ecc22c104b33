/-! SQ 25: groups brought into order -/
set_option maxRecDepth 100000
theorem rank_cmp {a b : Int32} (ha : kf_val a) (hb : kf_val b) : f_X8_rankOf a ≤ f_X8_rankOf b ↔ kf_rank a ≤ kf_rank b := by
  have e0 : (5000 : Int32).toInt = 5000 := by decide
  have e1 : (5001 : Int32).toInt = 5001 := by decide
  have f0 : (-1000 : Int32).toInt = -1000 := by decide
  have f1 : (-1001 : Int32).toInt = -1001 := by decide
  have f2 : (-1500 : Int32).toInt = -1500 := by decide
  have f3 : (-2000 : Int32).toInt = -2000 := by decide
  have num : ∀ u : Int32, kf_num u = true → (¬ u = 5000 ∧ ¬ u = 5001) ∧ -999 ≤ u.toInt ∧ u.toInt ≤ 999 := by
    intro u hu
    rw [num_iff] at hu
    refine ⟨⟨fun z => ?_, fun z => ?_⟩, hu⟩
    · rw [z, e0] at hu; omega
    · rw [z, e1] at hu; omega
  have n51 : ¬ (5000 : Int32) = 5001 := by decide
  unfold f_X8_rankOf kf_rank
  rcases ha with a1 | rfl | rfl <;> rcases hb with b1 | rfl | rfl
  · obtain ⟨⟨x1, x2⟩, x3, x4⟩ := num a a1
    obtain ⟨⟨y1, y2⟩, y3, y4⟩ := num b b1
    rw [if_neg x2, if_neg x1, if_neg y2, if_neg y1, if_neg x2, if_neg x1, if_neg y2, if_neg y1]
  · obtain ⟨⟨x1, x2⟩, x3, x4⟩ := num a a1
    rw [if_neg x2, if_neg x1, if_neg n51, if_pos rfl, if_neg x2, if_neg x1, if_neg n51, if_pos rfl, Int32.le_iff_toInt_le, Int32.le_iff_toInt_le, f0, f2]
    omega
  · obtain ⟨⟨x1, x2⟩, x3, x4⟩ := num a a1
    rw [if_neg x2, if_neg x1, if_pos rfl, if_neg x2, if_neg x1, if_pos rfl, Int32.le_iff_toInt_le, Int32.le_iff_toInt_le, f1, f3]
    omega
  · obtain ⟨⟨y1, y2⟩, y3, y4⟩ := num b b1
    rw [if_neg n51, if_pos rfl, if_neg y2, if_neg y1, if_neg n51, if_pos rfl, if_neg y2, if_neg y1, Int32.le_iff_toInt_le, Int32.le_iff_toInt_le, f0, f2]
    omega
  · exact ⟨fun _ => Int32.le_refl _, fun _ => Int32.le_refl _⟩
  · rw [if_neg n51, if_pos rfl, if_pos rfl, if_neg n51, if_pos rfl, if_pos rfl]
    decide
  · obtain ⟨⟨y1, y2⟩, y3, y4⟩ := num b b1
    rw [if_pos rfl, if_neg y2, if_neg y1, if_pos rfl, if_neg y2, if_neg y1, Int32.le_iff_toInt_le, Int32.le_iff_toInt_le, f1, f3]
    omega
  · rw [if_pos rfl, if_neg n51, if_pos rfl, if_pos rfl, if_neg n51, if_pos rfl]
    decide
  · exact ⟨fun _ => Int32.le_refl _, fun _ => Int32.le_refl _⟩
/-- how many groups are ahead of one -/
theorem cnt_rank {vs : List qkV} {C : List Int32} (h : qkGr C vs) (hC : ∀ c ∈ C, kf_val c) {j : Nat} {r : qkV} (hj : vs[j]? = some r) : (vs.map kf_tri).countP (fun g => decide (¬ f_X8_rankOf (r.2 0) ≤ f_X8_rankOf g.1)) = j := by
  obtain ⟨hl, e⟩ := List.getElem?_eq_some_iff.mp hj
  have hv : ∀ q ∈ vs, kf_val (q.2 0) := fun q hq => hC _ (h.2 q hq)
  have hrv : kf_val (r.2 0) := hv r (List.mem_of_getElem? hj)
  rw [List.countP_map]
  have hsplit : vs.countP ((fun g : Int32 × Int32 × Int32 => decide (¬ f_X8_rankOf (r.2 0) ≤ f_X8_rankOf g.1)) ∘ kf_tri) = (vs.take j).countP ((fun g : Int32 × Int32 × Int32 => decide (¬ f_X8_rankOf (r.2 0) ≤ f_X8_rankOf g.1)) ∘ kf_tri) + (vs.drop j).countP ((fun g : Int32 × Int32 × Int32 => decide (¬ f_X8_rankOf (r.2 0) ≤ f_X8_rankOf g.1)) ∘ kf_tri) := by
    rw [← List.countP_append, List.take_append_drop]
  rw [hsplit]
  have h1 : (vs.take j).countP ((fun g : Int32 × Int32 × Int32 => decide (¬ f_X8_rankOf (r.2 0) ≤ f_X8_rankOf g.1)) ∘ kf_tri) = (vs.take j).length := by
    rw [List.countP_eq_length]
    intro q hq
    obtain ⟨i, hi, ei⟩ := List.getElem_of_mem hq
    rw [List.length_take] at hi
    rw [List.getElem_take] at ei
    have hlt := (List.pairwise_iff_getElem.mp h.1) i j (by omega) hl (by omega)
    rw [ei, e] at hlt
    show decide (¬ f_X8_rankOf (r.2 0) ≤ f_X8_rankOf (q.2 0)) = true
    refine decide_eq_true ?_
    rw [rank_cmp hrv (hv q (List.mem_of_mem_take hq))]
    exact Int32.not_le.mpr hlt
  have h2 : (vs.drop j).countP ((fun g : Int32 × Int32 × Int32 => decide (¬ f_X8_rankOf (r.2 0) ≤ f_X8_rankOf g.1)) ∘ kf_tri) = 0 := by
    rw [List.countP_eq_zero]
    intro q hq
    obtain ⟨i, hi, ei⟩ := List.getElem_of_mem hq
    rw [List.length_drop] at hi
    rw [List.getElem_drop] at ei
    show ¬ decide (¬ f_X8_rankOf (r.2 0) ≤ f_X8_rankOf (q.2 0)) = true
    rw [decide_eq_true_eq, Classical.not_not, rank_cmp hrv (hv q (List.mem_of_mem_drop hq))]
    by_cases c : i = 0
    · subst c
      simp only [Nat.add_zero] at ei
      rw [← ei, e]
      exact Int32.le_refl _
    · have hlt := (List.pairwise_iff_getElem.mp h.1) j (j + i) hl (by omega) (by omega)
      rw [ei, e] at hlt
      exact Int32.le_of_lt hlt
  rw [h1, h2, List.length_take]
  omega
theorem km_makesGroups {S : qm_S} {lim : Nat} {C : List Int32} {vs : List qkV} {K : qm_S → Prop} (hl : lim ≤ 40) (h37 : S.1 37 = nI lim) (hC12 : C.length ≤ 12) (hCv : ∀ c ∈ C, kf_val c) (hG : aG S C vs)
    (hk : ∀ S' : qm_S, (∀ k, k ≠ 68 → S'.1 k = S.1 k) → (∀ k, k ≠ 70 → S'.2 k = S.2 k) → S'.1 68 = nI (vs.take lim).length → (∀ (k : Nat) (r : qkV), (vs.take lim)[k]? = some r → ∀ c, c < 3 → S'.2 70 (3 * k + c) = r.2 c) → K S') : T_X8_makesGroups S K := by
  obtain ⟨gs, g1, g2, g3, g4, g5⟩ := hG
  have hvl : vs.length = gs.length := by rw [← g3.length_eq, List.length_map]
  have hl12 : gs.length ≤ 12 := by
    rw [← hvl]
    exact Nat.le_trans (gr_len g4) hC12
  unfold T_X8_makesGroups
  intro X hX
  refine lp (P := fun p st => X (nI p) st) (min gs.length lim) (fun p st => (∀ k, k ≠ 68 → st.1 k = S.1 k) ∧ (∀ k, k ≠ 70 → st.2 k = S.2 k) ∧ st.1 68 = nI p ∧ ∀ (k : Nat) (r : qkV), k < p → vs[k]? = some r → ∀ c, c < 3 → st.2 70 (3 * k + c) = r.2 c) (fun p st hp hI ih => ?_) 0 _ (Nat.zero_le _) ⟨fun k hk => un1 hk, fun _ _ => rfl, us1, fun k r hk _ => absurd hk (by omega)⟩
  obtain ⟨f1, f2, f68, f70⟩ := hI
  refine hX _ _ ?_
  rw [f1 71 (by decide), g1, f1 37 (by decide), h37]
  have fin : p = min gs.length lim → K st := by
    intro e
    refine hk st f1 f2 ?_ (fun k r hr c hc => ?_)
    · rw [f68, List.length_take, hvl, e, Nat.min_comm]
    · rw [List.getElem?_take] at hr
      by_cases w : k < lim
      · rw [if_pos w] at hr
        have := (List.getElem?_eq_some_iff.mp hr).1
        exact f70 k r (by omega) hr c hc
      · rw [if_neg w] at hr
        cases hr
  refine pk_le gs.length p (fun z => fin (by omega)) (fun z => pk_le lim p (fun z' => fin (by omega)) (fun z' => ?_))
  have hpl : p < min gs.length lim := by omega
  have ih := ih hpl
  have hgp : vs[p]? = some (vs[p]'(by omega)) := List.getElem?_eq_getElem (by omega)
  generalize vs[p]'(show p < vs.length by omega) = rp at hgp
  clear fin hX
  intro Y hY
  refine lp (P := fun g st' => Y (nI g) st') gs.length (fun g st' => (∀ k, k ≠ 68 → st'.1 k = S.1 k) ∧ (∀ k, k ≠ 70 → st'.2 k = S.2 k) ∧ (∀ (k : Nat) (r : qkV), k < p → vs[k]? = some r → ∀ c, c < 3 → st'.2 70 (3 * k + c) = r.2 c) ∧ ((st'.1 68 = nI p ∧ ∀ j x, j < g → gs[j]? = some x → x ≠ kf_tri rp) ∨ (st'.1 68 = nI (p + 1) ∧ ∀ c, c < 3 → st'.2 70 (3 * p + c) = rp.2 c))) (fun g st' hg hI ih' => ?_) 0 st (Nat.zero_le _) ⟨f1, f2, f70, Or.inl ⟨f68, fun j x hj _ => absurd hj (by omega)⟩⟩
  obtain ⟨h1, h2, h3, h4⟩ := hI
  refine hY _ _ ?_
  rw [h1 71 (by decide), g1]
  refine pk_le gs.length g (fun w => ?_) (fun w => ?_)
  · obtain rfl : g = gs.length := by omega
    rw [nI_1]
    rcases h4 with ⟨_, hno⟩ | ⟨h68, hc⟩
    · exfalso
      have hm : kf_tri rp ∈ gs := g3.mem_iff.mp (List.mem_map_of_mem (List.mem_of_getElem? hgp))
      obtain ⟨j, hj, ej⟩ := List.getElem_of_mem hm
      exact hno j _ hj (by rw [List.getElem?_eq_getElem hj, ej]) rfl
    · refine ih st' ⟨h1, h2, h68, fun k r hk hr c hc' => ?_⟩
      by_cases e : k = p
      · subst e
        rw [hgp] at hr
        cases hr
        exact hc c hc'
      · exact h3 k r (by omega) hr c hc'
  · have hgg : gs[g]? = some gs[g] := List.getElem?_eq_getElem w
    obtain ⟨q1, q2, q3⟩ := g2 g _ hgg
    -- the group's place in order
    have hm : gs[g] ∈ vs.map kf_tri := g3.mem_iff.mpr (List.getElem_mem w)
    obtain ⟨r, hr, er⟩ := List.mem_map.mp hm
    obtain ⟨j, hj, ej⟩ := List.getElem_of_mem hr
    have hgj : vs[j]? = some r := by rw [List.getElem?_eq_getElem hj, ej]
    have hcnt := cnt_rank g4 hCv hgj
    rw [g3.countP_eq] at hcnt
    have er0 : gs[g].1 = r.2 0 := by rw [← er]; rfl
    intro Z hZ
    have ih' := ih' w
    have ih : True := trivial
    refine lp (P := fun k (x : Int32) => Z x (nI k)) gs.length (fun k x => x = nI ((gs.take k).countP (fun g' => decide (¬ f_X8_rankOf (r.2 0) ≤ f_X8_rankOf g'.1)))) (fun k x hk' hI ihk => ?_) 0 0 (Nat.zero_le _) rfl
    subst hI
    refine hZ _ _ ?_
    refine pk_le gs.length k (fun v => ?_) (fun v => ?_)
    · obtain rfl : k = gs.length := by omega
      rw [List.take_length, hcnt, nI_clamp (n := g) (by omega), h2 72 (by decide), h2 73 (by decide), h2 74 (by decide), q1, q2, q3, m_3, nI_1, p_2, nI_1, nI_1, nI_clamp (n := 3 * p) (by omega), nI_clamp (n := 3 * p + 1) (by omega), nI_clamp (n := 3 * p + 2) (by omega)]
      refine pj_eq j p (fun e => ih' st' ⟨h1, h2, h3, ?_⟩) (fun e => ⟨ik 12 (by omega), ik 120 (by omega), ik 12 (by omega), ik 120 (by omega), ik 12 (by omega), ik 120 (by omega), ih' _ ⟨fun k hk => (un1 hk).trans (h1 k hk), fun k hk => ?_, fun k q hk hq c hc => ?_, Or.inr ⟨us1, fun c hc => ?_⟩⟩⟩)
      · rcases h4 with ⟨a1, a2⟩ | a
        · refine Or.inl ⟨a1, fun i x hi hx => ?_⟩
          by_cases ei : i = g
          · subst ei
            rw [hgg] at hx
            cases hx
            intro ez
            have h0 : r.2 0 = rp.2 0 := by
              rw [← er0, ez]
              rfl
            have e1 := gpl_at g4.1 hgj rfl
            have e2 := gpl_at g4.1 hgp rfl
            rw [h0] at e1
            exact e (e1.symm.trans e2)
          · exact a2 i x (by omega) hx
        · exact Or.inr a
      · show qm_uA (qm_uA (qm_uA st'.2 70 _) 70 _) 70 _ k = _
        rw [uA_n hk, uA_n hk, uA_n hk]
        exact h2 k hk
      · rw [us2, upd_n (by omega), upd_n (by omega), upd_n (by omega)]
        exact h3 k q hk hq c hc
      · subst e
        rw [hgj] at hgp
        cases hgp
        rw [us2]
        have hc3 : c = 0 ∨ c = 1 ∨ c = 2 := by omega
        rcases hc3 with rfl | rfl | rfl
        · rw [upd_n (by omega), upd_n (by omega)]
          exact Eq.trans upd_s er0
        · rw [upd_n (by omega), upd_s, ← er]
          rfl
        · rw [upd_s, ← er]
          rfl
    · have hgk : gs[k]? = some gs[k] := List.getElem?_eq_getElem v
      rw [nI_clamp (n := k) (by omega), nI_clamp (n := g) (by omega), h2 72 (by decide), q1, (g2 k _ hgk).1, er0, nI_1, nI_1, Int32.add_zero]
      refine ⟨ik 12 (by omega), ik 12 (by omega), fun c => ihk v _ ?_, fun c => ihk v _ ?_⟩
      · rw [take_s v, List.countP_append, List.countP_cons_of_neg (by simpa using c)]
        rfl
      · rw [take_s v, List.countP_append, List.countP_cons_of_pos (by simpa using c)]
        rfl
