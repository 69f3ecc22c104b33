/-! SQ 24: a match told; groups -/
set_option maxRecDepth 100000
theorem cAt.fr {S S' : qm_S} {n : Nat} {rss : Nat → List qkRow} {a : Nat → Nat} {Mt : Nat → qkRow} (h : cAt S n rss a Mt) (h65 : S'.2 65 = S.2 65) (h66 : S'.2 66 = S.2 66) (h67 : S'.2 67 = S.2 67) : cAt S' n rss a Mt := by
  unfold cAt rM at h ⊢
  rw [h65, h66, h67]
  exact h
theorem oc_at {A : qkA} {S : qm_S} {n k : Nat} {rss : Nat → List qkRow} {a : Nat → Nat} {Mt : Nat → qkRow} (hD : cD A S) (hi : iD A) (hn : (aSeat A).length = n) (h : cAt S n rss a Mt) (hk : k < (aOut A).length) : f_X8_cellAt (S.2 35 k) (S.2 36 k) S = kf_orow A Mt k ∧ p_X8_cellAt (S.2 35 k) (S.2 36 k) S := by
  have hg : (aOut A)[k]? = some (aOut A)[k] := List.getElem?_eq_getElem hk
  obtain ⟨⟨s, hs, e1⟩, ⟨c, hc, e2⟩⟩ := hi.2.2.2.1.2 _ (List.getElem_mem hk)
  obtain ⟨o1, o2⟩ := hD.2.2.2.2 k _ hg
  have hn3 : n ≤ 3 := by rw [← hn]; exact hi.1.1
  obtain ⟨x1, x2⟩ := fm_cellAt hn3 h (show s < n by omega) hc
  rw [o1, o2, e1, e2]
  refine ⟨?_, x2⟩
  rw [x1]
  unfold kf_orow
  rw [hg]
  show _ = kf_oc Mt (aOut A)[k]
  unfold kf_oc
  rw [e1, e2, nI_clamp (n := s) (by omega), nI_clamp (n := c) (by omega)]
/-- rows made, one a match -/
def aU (A : qkA) (S : qm_S) (lim : Nat) (vs : List qkV) : Prop := S.1 68 = nI vs.length ∧ vs.length ≤ lim ∧ ∀ (k : Nat) (r : qkV), vs[k]? = some r → r.1 = (aOut A).length ∧ ∀ c, c < r.1 → S.2 70 (3 * k + c) = r.2 c
theorem km_addsMatch {A : qkA} {S : qm_S} {n lim : Nat} {rss : Nat → List qkRow} {a : Nat → Nat} {Mt : Nat → qkRow} {vs : List qkV} {K : qm_S → Prop} (hD : cD A S) (hi : iD A) (hn : (aSeat A).length = n) (h : cAt S n rss a Mt) (hl : lim ≤ 40) (h37 : S.1 37 = nI lim) (hU : aU A S lim vs)
    (hk : ∀ S' : qm_S, (∀ k, k ≠ 68 → S'.1 k = S.1 k) → (∀ k, k ≠ 70 → S'.2 k = S.2 k) → aU A S' lim (if vs.length < lim then vs ++ [((aOut A).length, kf_orow A Mt)] else vs) → K S') : T_X8_addsMatch S K := by
  have ho3 := hi.2.2.2.1.1
  obtain ⟨u1, u2, u3⟩ := hU
  unfold T_X8_addsMatch
  intro X hX
  refine lp (P := fun o st => X (nI o) st) (aOut A).length (fun o st => st.1 = S.1 ∧ (∀ k, k ≠ 70 → st.2 k = S.2 k) ∧ (∀ p, p < 3 * vs.length → st.2 70 p = S.2 70 p) ∧ (vs.length < lim → ∀ c, c < o → st.2 70 (3 * vs.length + c) = kf_orow A Mt c)) (fun o st ho hI ih => ?_) 0 S (Nat.zero_le _) ⟨rfl, fun _ _ => rfl, fun _ _ => rfl, fun _ c hc => absurd hc (by omega)⟩
  obtain ⟨g1, g2, g3, g4⟩ := hI
  have hDs : cD A st := hD.fr (fun k _ _ => by rw [g1]) (fun k _ _ => g2 k (by omega))
  have s34 : st.1 34 = nI (aOut A).length := hDs.2.2.2.1
  have s37 : st.1 37 = nI lim := by rw [g1]; exact h37
  have s68 : st.1 68 = nI vs.length := by rw [g1]; exact u1
  refine hX _ _ ?_
  intro J hJ
  rw [s37, s68] at hJ
  have old : ∀ (k : Nat) (r : qkV), vs[k]? = some r → r.1 = (aOut A).length ∧ ∀ c, c < r.1 → st.2 70 (3 * k + c) = r.2 c := fun k r hr => by
    obtain ⟨w1, w2⟩ := u3 k r hr
    have hk := (List.getElem?_eq_some_iff.mp hr).1
    exact ⟨w1, fun c hc => by rw [g3 _ (by omega)]; exact w2 c hc⟩
  have full : ¬ vs.length < lim → J := by
    intro w
    refine hJ ?_
    rw [if_pos (nI_le (by omega) (by omega)), Int32.add_zero]
    refine hk _ (fun k hk => (un1 hk).trans (by rw [g1])) g2 ?_
    rw [if_neg w]
    exact ⟨us1, u2, old⟩
  rw [s34, s37, s68]
  refine pk_le (aOut A).length o (fun z => ?_) (fun z => ?_)
  · by_cases w : vs.length < lim
    · obtain rfl : o = (aOut A).length := by omega
      refine hJ ?_
      rw [if_neg (nI_ge (by omega) (by omega)), nI_1]
      refine hk _ (fun k hk => (un1 hk).trans (by rw [g1])) g2 ?_
      rw [if_pos w]
      refine ⟨?_, ?_, fun k r hr => ?_⟩
      · rw [us1, List.length_append]
        rfl
      · rw [List.length_append]
        simp only [List.length_cons, List.length_nil]
        omega
      · rcases app_at hr with ⟨hne, hr⟩ | ⟨e, rfl⟩
        · exact old k r hr
        · rw [e]
          exact ⟨rfl, fun c hc => g4 w c hc⟩
    · exact full w
  · refine pk_le lim vs.length (fun w => full (by omega)) (fun w => ?_)
    obtain ⟨x1, x2⟩ := oc_at hDs hi hn (h.fr (g2 65 (by decide)) (g2 66 (by decide)) (g2 67 (by decide))) z
    rw [nI_clamp (n := o) (by omega), x1, m_3, nI_add, nI_1, nI_clamp (n := 3 * vs.length + o) (by omega)]
    refine ⟨pk_in o 3 (by omega), pk_in o 3 (by omega), x2, ik 120 (by omega), ih z _ ⟨g1, fun k hk => (un2 hk).trans (g2 k hk), fun p hp => ?_, fun _ c hc => ?_⟩⟩
    · exact Eq.trans (upd_n (by omega)) (g3 p hp)
    · by_cases e : c = o
      · rw [e]
        exact upd_s
      · exact Eq.trans (upd_n (by omega)) (g4 w c (by omega))
/-! groups -/
def kf_tri (r : qkV) : Int32 × Int32 × Int32 := (r.2 0, r.2 1, r.2 2)
theorem perm_set {α : Type} {l1 l2 : List α} {p k : Nat} {x y : α} (h : l1.Perm l2) (h1 : l1[p]? = some x) (h2 : l2[k]? = some x) : (l1.set p y).Perm (l2.set k y) := by
  obtain ⟨hp, e1⟩ := List.getElem?_eq_some_iff.mp h1
  obtain ⟨hk, e2⟩ := List.getElem?_eq_some_iff.mp h2
  have s1 : l1.take p ++ x :: l1.drop (p + 1) = l1 := by rw [← e1, List.getElem_cons_drop, List.take_append_drop]
  have s2 : l2.take k ++ x :: l2.drop (k + 1) = l2 := by rw [← e2, List.getElem_cons_drop, List.take_append_drop]
  rw [List.set_eq_take_append_cons_drop, if_pos hp, List.set_eq_take_append_cons_drop, if_pos hk]
  have hh : (l1.take p ++ l1.drop (p + 1)).Perm (l2.take k ++ l2.drop (k + 1)) := by
    have : (x :: (l1.take p ++ l1.drop (p + 1))).Perm (x :: (l2.take k ++ l2.drop (k + 1))) := by
      refine (List.perm_middle.symm.trans ?_).trans List.perm_middle
      rw [s1, s2]
      exact h
    exact this.cons_inv
  exact (List.perm_middle.trans (hh.cons y)).trans List.perm_middle.symm
theorem gpl_at {vs : List qkV} {v : Int32} {j : Nat} {r : qkV} (ha : vs.Pairwise (fun a b => kf_rank (a.2 0) < kf_rank (b.2 0))) (hj : vs[j]? = some r) (hr : r.2 0 = v) : kf_gpl vs v = j := by
  obtain ⟨hl, e⟩ := List.getElem?_eq_some_iff.mp hj
  unfold kf_gpl
  rw [(tw_take (fun q : qkV => decide (¬ kf_rank v ≤ kf_rank (q.2 0))) vs j (by omega) (fun i x hi hx => by
    obtain ⟨hi', ex⟩ := List.getElem?_eq_some_iff.mp hx
    have := (List.pairwise_iff_getElem.mp ha) i j hi' hl hi
    rw [ex, e, hr] at this
    exact decide_eq_true (Int32.not_le.mpr this)) (fun x hx => by
    rw [hj] at hx
    cases hx
    rw [hr]
    exact decide_eq_false (fun z => z (Int32.le_refl _)))).1, List.length_take]
  omega
/-- groups, as they stand on both sides -/
def aG (S : qm_S) (C : List Int32) (vs : List qkV) : Prop := ∃ gs : List (Int32 × Int32 × Int32), S.1 71 = nI gs.length ∧ (∀ (k : Nat) (g : Int32 × Int32 × Int32), gs[k]? = some g → S.2 72 k = g.1 ∧ S.2 73 k = g.2.1 ∧ S.2 74 k = g.2.2) ∧ (vs.map kf_tri).Perm gs ∧ qkGr C vs ∧ ∀ r ∈ vs, r.1 = 3
theorem km_addsToGroup {A : qkA} {S : qm_S} {n : Nat} {rss : Nat → List qkRow} {a : Nat → Nat} {Mt : Nat → qkRow} {vs : List qkV} {C : List Int32} {K : qm_S → Prop} (hD : cD A S) (hi : iD A) (hn : (aSeat A).length = n) (ho1 : 1 ≤ (aOut A).length) (h : cAt S n rss a Mt) (hC12 : C.length ≤ 12) (hCv : ∀ c ∈ C, kf_val c) (hv : kf_first A Mt ∈ C) (hG : aG S C vs)
    (hk : ∀ S' : qm_S, (∀ k, k ≠ 71 → S'.1 k = S.1 k) → (∀ k, k ≠ 72 → k ≠ 73 → k ≠ 74 → S'.2 k = S.2 k) → aG S' C (kf_grp vs (kf_first A Mt) (kf_lastv A Mt)) → K S') : T_X8_addsToGroup S K := by
  have ho3 := hi.2.2.2.1.1
  obtain ⟨gs, g1, g2, g3, g4, g5⟩ := hG
  have hnew := gr_grp (w := kf_lastv A Mt) hCv hv g4
  have hl12 : gs.length ≤ 12 := by
    rw [← g3.length_eq, List.length_map]
    exact Nat.le_trans (gr_len g4) hC12
  have hnl : (kf_grp vs (kf_first A Mt) (kf_lastv A Mt)).length ≤ 12 := Nat.le_trans (gr_len hnew) hC12
  obtain ⟨x1, y1⟩ := oc_at hD hi hn h (show 0 < (aOut A).length by omega)
  obtain ⟨x2, y2⟩ := oc_at hD hi hn h (show (aOut A).length - 1 < (aOut A).length by omega)
  have c0 : (0 : Int32).toNatClampNeg = 0 := rfl
  unfold T_X8_addsToGroup
  rw [hD.2.2.2.1, s_1 ho1, nI_clamp (n := (aOut A).length - 1) (by omega), c0, x1, x2, fm_num]
  refine ⟨y1, ik 3 (by omega), ik 3 (by omega), y2, ?_⟩
  have hfirst : kf_orow A Mt 0 = kf_first A Mt := rfl
  have hlast : kf_orow A Mt ((aOut A).length - 1) = kf_lastv A Mt := rfl
  rw [hfirst, hlast, g1]
  have hw : (if b2 (kf_num (kf_lastv A Mt)) = 0 then (0 : Int32) else kf_lastv A Mt) = (if kf_num (kf_lastv A Mt) = true then kf_lastv A Mt else 0) := by
    cases kf_num (kf_lastv A Mt) <;> rfl
  rw [hw]
  generalize kf_first A Mt = v at hv hnew hnl hk
  generalize hwv : kf_lastv A Mt = w at hnew hnl hk
  intro X hX
  refine lp (P := fun k (x : Int32) => X x (nI k)) gs.length (fun k x => (x = -1 ∧ ∀ j g, j < k → gs[j]? = some g → ¬ g.1 = v) ∨ ∃ j g, j < k ∧ x = nI j ∧ gs[j]? = some g ∧ g.1 = v) (fun k x hk' hI ih => ?_) 0 (-1) (Nat.zero_le _) (Or.inl ⟨rfl, fun j g hj _ => absurd hj (by omega)⟩)
  refine hX _ _ (pk_le gs.length k (fun z => ?_) (fun z => ?_))
  rotate_left
  · have hg : gs[k]? = some gs[k] := List.getElem?_eq_getElem z
    rw [nI_clamp (n := k) (by omega), (g2 k _ hg).1, nI_1]
    refine ⟨pk_in k 12 (by omega), fun q => ih z x ?_, fun q => ih z (nI k) (Or.inr ⟨k, _, by omega, rfl, hg, q⟩)⟩
    rcases hI with ⟨e, hno⟩ | ⟨j, g, hj, e, hgj, hgv⟩
    · refine Or.inl ⟨e, fun j g hj hgj => ?_⟩
      by_cases e' : j = k
      · subst e'
        rw [hg] at hgj
        cases hgj
        exact q
      · exact hno j g (by omega) hgj
    · exact Or.inr ⟨j, g, by omega, e, hgj, hgv⟩
  obtain rfl : k = gs.length := by omega
  clear ih hX
  intro J hJ
  rcases hI with ⟨e, hno⟩ | ⟨j, g, hj, e, hgj, hgv⟩
  · -- a new group
    have hnov : ∀ r ∈ vs, ¬ r.2 0 = v := by
      intro r hr hz
      have hm : kf_tri r ∈ gs := g3.mem_iff.mp (List.mem_map_of_mem hr)
      obtain ⟨j, hj, ej⟩ := List.getElem_of_mem hm
      exact hno j (kf_tri r) hj (by rw [List.getElem?_eq_getElem hj, ej]) hz
    have hins : kf_gins vs v = vs.take (kf_gpl vs v) ++ kf_g0 v :: vs.drop (kf_gpl vs v) := by
      unfold kf_gins
      rw [if_neg]
      cases hx : vs[kf_gpl vs v]? with
      | none => simp
      | some r =>
        have := hnov r (List.mem_of_getElem? hx)
        simpa using this
    have hpl : kf_gpl vs v ≤ vs.length := by
      unfold kf_gpl
      exact (List.takeWhile_sublist _).length_le
    have hlt : (vs.take (kf_gpl vs v)).length = kf_gpl vs v := by
      rw [List.length_take]
      omega
    have hgrp : kf_grp vs v w = vs.take (kf_gpl vs v) ++ kf_gadd (kf_g0 v) w :: vs.drop (kf_gpl vs v) := by
      have hget : (vs.take (kf_gpl vs v) ++ kf_g0 v :: vs.drop (kf_gpl vs v))[kf_gpl vs v]? = some (kf_g0 v) := by
        rw [List.getElem?_append_right (by omega), hlt, Nat.sub_self]
        rfl
      unfold kf_grp
      rw [hins, hget]
      show (vs.take (kf_gpl vs v) ++ kf_g0 v :: vs.drop (kf_gpl vs v)).set (kf_gpl vs v) _ = _
      rw [List.set_append_right _ _ (by omega), hlt, Nat.sub_self]
      rfl
    have hgl : gs.length ≤ 11 := by
      have : (kf_grp vs v w).length = vs.length + 1 := by
        rw [hgrp, List.length_append, List.length_cons, List.length_drop, hlt]
        omega
      have hvl : vs.length = gs.length := by rw [← g3.length_eq, List.length_map]
      omega
    subst e
    refine ⟨fun q => absurd rfl q, fun _ => ⟨ik 12 (by omega), ik 12 (by omega), ik 12 (by omega), ?_⟩⟩
    rw [nI_clamp (n := gs.length) (by omega)]
    refine hJ _ _ ?_
    rw [nI_clamp (n := gs.length) (by omega)]
    refine ⟨ik 12 (by omega), ik 12 (by omega), hk _ (fun k hk => un1 hk) (fun k a b c => ?_) ⟨gs ++ [kf_tri (kf_gadd (kf_g0 v) w)], ?_, fun k g hkg => ?_, ?_, hnew, fun r hr => ?_⟩⟩
    · show qm_uA (qm_uA (qm_uA (qm_uA (qm_uA S.2 72 _) 73 _) 74 _) 73 _) 74 _ k = _
      rw [uA_n c, uA_n b, uA_n c, uA_n b, uA_n a]
    · show nI gs.length + 1 = _
      rw [nI_1, List.length_append]
      rfl
    · rcases app_at hkg with ⟨hne, hkg⟩ | ⟨ek, rfl⟩
      · obtain ⟨w1, w2, w3⟩ := g2 k g hkg
        refine ⟨Eq.trans (upd_n hne) w1, Eq.trans (upd_n hne) (Eq.trans (upd_n hne) w2), Eq.trans (upd_n hne) (Eq.trans (upd_n hne) w3)⟩
      · rw [ek]
        refine ⟨upd_s, Eq.trans upd_s ?_, Eq.trans upd_s ?_⟩
        · show upd (S.2 73) gs.length 0 gs.length + 1 = _
          rw [upd_s]
          rfl
        · show upd (S.2 74) gs.length 0 gs.length + _ = _
          rw [upd_s]
          rfl
    · rw [hgrp, List.map_append, List.map_cons]
      refine List.perm_middle.trans ?_
      rw [← List.map_append, List.take_append_drop]
      refine (g3.cons _).trans ?_
      exact (List.perm_append_singleton _ _).symm
    · rw [hgrp] at hr
      rcases List.mem_append.mp hr with hr | hr
      · exact g5 r (List.mem_of_mem_take hr)
      · rcases List.mem_cons.mp hr with rfl | hr
        · rfl
        · exact g5 r (List.mem_of_mem_drop hr)
  · -- a group that is there
    subst e
    obtain ⟨hjl, ejg⟩ := List.getElem?_eq_some_iff.mp hgj
    have hm : g ∈ vs.map kf_tri := g3.mem_iff.mpr (List.mem_of_getElem? hgj)
    obtain ⟨r, hr, er⟩ := List.mem_map.mp hm
    obtain ⟨p, hp, ep⟩ := List.getElem_of_mem hr
    have hgp : vs[p]? = some r := by rw [List.getElem?_eq_getElem hp, ep]
    have hrv : r.2 0 = v := by rw [← hgv, ← er]; rfl
    have hpl := gpl_at g4.1 hgp hrv
    have hins : kf_gins vs v = vs := by
      unfold kf_gins
      rw [hpl, hgp, if_pos]
      exact decide_eq_true hrv
    have hgrp : kf_grp vs v w = vs.set p (kf_gadd r w) := by
      unfold kf_grp
      rw [hins, hpl, hgp]
    refine ⟨fun _ => ?_, fun q => absurd q (nI_nm1 (by omega))⟩
    refine hJ _ _ ?_
    obtain ⟨w1, w2, w3⟩ := g2 j g hgj
    rw [nI_clamp (n := j) (by omega), w2, w3]
    refine ⟨ik 12 (by omega), ik 12 (by omega), hk _ (fun _ _ => rfl) (fun k a b c => ?_) ⟨gs.set j (kf_tri (kf_gadd r w)), ?_, fun k g' hkg => ?_, ?_, hnew, fun q hq => ?_⟩⟩
    · show qm_uA (qm_uA S.2 73 _) 74 _ k = _
      rw [uA_n c, uA_n b]
    · rw [List.length_set]
      exact g1
    · by_cases ek : k = j
      · subst ek
        rw [List.getElem?_set_self hjl] at hkg
        cases hkg
        refine ⟨?_, Eq.trans upd_s ?_, Eq.trans upd_s ?_⟩
        · show S.2 72 k = _
          rw [w1, hgv, ← hrv]
          rfl
        · rw [← er]
          rfl
        · rw [← er]
          rfl
      · rw [List.getElem?_set_ne (fun q => ek q.symm)] at hkg
        obtain ⟨z1, z2, z3⟩ := g2 k g' hkg
        exact ⟨z1, Eq.trans (upd_n ek) z2, Eq.trans (upd_n ek) z3⟩
    · rw [hgrp, List.map_set]
      refine perm_set (x := g) g3 ?_ hgj
      rw [List.getElem?_map, hgp]
      show some (kf_tri r) = some g
      rw [er]
    · rw [hgrp] at hq
      rcases List.mem_or_eq_of_mem_set hq with hq | rfl
      · exact g5 q hq
      · exact g5 r hr
