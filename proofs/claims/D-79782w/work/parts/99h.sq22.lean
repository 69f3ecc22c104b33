/-! SQ 22: rows laid among those that are matched; cells of a choice of rows; links -/
set_option maxRecDepth 100000
/-- rows of a seat that are matched -/
def rM (S : qm_S) (s : Nat) (rows : List qkRow) : Prop := S.2 65 s = nI rows.length ∧ rows.length ≤ 12 ∧ ∀ (k : Nat) (r : qkRow), rows[k]? = some r → ∀ c, c < 4 → S.2 66 (4 * (12 * s + k) + c) = r.2 c
theorem km_laysRow {A : qkA} {S : qm_S} {i here row src : Nat} {r : qkRow} {rows : List qkRow} {K : qm_S → Prop} (hD : cD A S) (hi : iD A) (hi3 : i < 3) (hh : (here = 1 ∧ ∀ c, c < 4 → S.2 59 (4 * (12 * i + row) + c) = r.2 c) ∨ (here = 0 ∧ (aSeat A)[i]? = some (nI src) ∧ src < 6 ∧ ∀ c, c < 4 → S.2 3 (4 * (12 * src + row) + c) = r.2 c)) (hr12 : row < 12) (hM : rM S i rows) (h11 : rows.length ≤ 11)
    (hk : ∀ S' : qm_S, S'.1 = S.1 → (∀ k, k ≠ 65 → k ≠ 66 → S'.2 k = S.2 k) → (∀ j, j ≠ i → S'.2 65 j = S.2 65 j) → (∀ p, p < 48 * i ∨ 48 * i + 48 ≤ p → S'.2 66 p = S.2 66 p) → rM S' i (rows ++ if kf_all (kf_own A (nI i)) r = true then [r] else []) → K S') : T_X8_laysRow (nI i) (nI here) (nI row) S K := by
  have h4 := hi.2.2.1.1
  obtain ⟨m1, m2, m3⟩ := hM
  unfold T_X8_laysRow
  rw [nI_clamp (n := i) (by omega), m1]
  refine ⟨pk_in i 3 hi3, ?_⟩
  intro X hX
  refine lp (P := fun n st => X (nI n) st) 4 (fun n st => st = (S.1, qm_uA S.2 66 (kcq 0 (4 * (12 * i + rows.length)) n r.2 (S.2 66)))) (fun n st hn hI ih => ?_) 0 _ (by omega) ?_
  rotate_left
  · rw [kcq_0]
    exact Prod.ext rfl (uA_id (f := S.2) (k := 66)).symm
  subst hI
  refine hX _ _ (pk_le 4 n (fun z => ?_) (fun z => ?_))
  rotate_left
  · have ih' := ih z _ rfl
    rw [← kcq_s] at ih'
    have e3 : ((S.1, qm_uA S.2 66 (kcq 0 (4 * (12 * i + rows.length)) n r.2 (S.2 66))) : qm_S).2 3 = S.2 3 := un2 (by decide)
    have e23 : ((S.1, qm_uA S.2 66 (kcq 0 (4 * (12 * i + rows.length)) n r.2 (S.2 66))) : qm_S).2 23 = S.2 23 := un2 (by decide)
    have e59 : ((S.1, qm_uA S.2 66 (kcq 0 (4 * (12 * i + rows.length)) n r.2 (S.2 66))) : qm_S).2 59 = S.2 59 := un2 (by decide)
    have e66 : ((S.1, qm_uA S.2 66 (kcq 0 (4 * (12 * i + rows.length)) n r.2 (S.2 66))) : qm_S).2 66 = kcq 0 (4 * (12 * i + rows.length)) n r.2 (S.2 66) := us2
    rw [e3, e23, e59, e66, nI_1, m_12, nI_add, nI_add, m_4, m_4, nI_add, nI_add, nI_clamp (n := 4 * (12 * i + rows.length) + n) (by omega), nI_clamp (n := 4 * (12 * i + row) + n) (by omega)]
    rw [Nat.zero_add] at ih'
    rcases hh with ⟨rfl, hc⟩ | ⟨rfl, hs, h6, hc⟩
    · have n10 : ¬ nI 1 = (0 : Int32) := by decide
      rw [if_neg n10, hc n z, uA_2]
      exact ⟨⟨fun w => absurd w n10, fun _ => ik 144 (by omega)⟩, ik 144 (by omega), ih'⟩
    · have n00 : nI 0 = (0 : Int32) := rfl
      rw [if_pos n00, hD.1.2 i _ hs, m_12, nI_add, m_4, nI_add, nI_clamp (n := 4 * (12 * src + row) + n) (by omega), hc n z, uA_2]
      exact ⟨⟨fun _ => ⟨pk_in i 3 hi3, ik 288 (by omega)⟩, fun w => absurd n00 w⟩, ik 144 (by omega), ih'⟩
  obtain rfl : n = 4 := by omega
  clear ih hX
  generalize hT : ((S.1, qm_uA S.2 66 (kcq 0 (4 * (12 * i + rows.length)) 4 r.2 (S.2 66))) : qm_S) = T
  have t1 : T.1 = S.1 := by rw [← hT]
  have t2 : ∀ k, k ≠ 66 → T.2 k = S.2 k := fun k hk => by rw [← hT]; exact un2 hk
  have t66 : T.2 66 = kcq 0 (4 * (12 * i + rows.length)) 4 r.2 (S.2 66) := by rw [← hT]; exact us2
  have hcell : ∀ c, c < 4 → T.2 66 (4 * (12 * i + rows.length) + c) = r.2 c := fun c hc => by
    rw [t66, kcq_in hc, Nat.zero_add]
  have hDT : cD A T := hD.fr (fun k _ _ => by rw [t1]) (fun k _ _ => t2 k (by omega))
  intro Y hY
  rw [hDT.2.2.1.1] at hY
  refine lp (P := fun n (x : Int32) => Y x (nI n)) (aCond A).length (fun n x => x = b2 (((aCond A).take n).all (fun cd => !decide (cd.1 = nI i) || kf_hold cd r))) (fun n x hn hI ih => ?_) 0 1 (Nat.zero_le _) rfl
  subst hI
  refine hY _ _ (pk_le (aCond A).length n (fun z => ?_) (fun z => ?_))
  · obtain rfl : n = (aCond A).length := by omega
    rw [List.take_length]
    have hall : (aCond A).all (fun cd => !decide (cd.1 = nI i) || kf_hold cd r) = kf_all (kf_own A (nI i)) r := by
      unfold kf_all kf_own
      rw [all_flt]
    rw [hall]
    have e1 : (if b2 (kf_all (kf_own A (nI i)) r) = 0 then (0 : Int32) else 1) = b2 (kf_all (kf_own A (nI i)) r) := by
      cases kf_all (kf_own A (nI i)) r <;> rfl
    rw [e1, t2 65 (by decide), m1]
    refine hk _ t1 (fun k a b => (un2 a).trans (t2 k b)) (fun j hj => upd_n hj) (fun p hp => ?_) ⟨?_, ?_, fun k q hq c hc => ?_⟩
    · rw [un2 (show (66 : Nat) ≠ 65 by decide), t66]
      exact kcq_out (by omega)
    · show upd (S.2 65) i _ i = _
      rw [upd_s]
      cases kf_all (kf_own A (nI i)) r with
      | true =>
        show nI rows.length + 1 = nI (rows ++ [r]).length
        rw [nI_1, List.length_append]
        rfl
      | false =>
        show nI rows.length + 0 = nI (rows ++ []).length
        rw [Int32.add_zero, List.append_nil]
    · cases kf_all (kf_own A (nI i)) r with
      | true => simp; omega
      | false => simp; omega
    · rw [un2 (show (66 : Nat) ≠ 65 by decide)]
      cases hb : kf_all (kf_own A (nI i)) r with
      | true =>
        rw [hb, if_pos rfl] at hq
        rcases app_at hq with ⟨hne, hq⟩ | ⟨e, rfl⟩
        · have := (List.getElem?_eq_some_iff.mp hq).1
          rw [t66, kcq_out (by omega)]
          exact m3 k q hq c hc
        · rw [e]
          exact hcell c hc
      | false =>
        rw [hb, if_neg (by decide), List.append_nil] at hq
        have := (List.getElem?_eq_some_iff.mp hq).1
        rw [t66, kcq_out (by omega)]
        exact m3 k q hq c hc
  · have hg : (aCond A)[n]? = some (aCond A)[n] := List.getElem?_eq_getElem z
    obtain ⟨⟨j, hj, ej⟩, hnum⟩ := cw_of hi hg
    obtain ⟨c0, c1, c2, c3⟩ := hDT.2.2.1.2 n _ hg
    have st : ∀ b, b = (((aCond A).take n).all (fun cd => !decide (cd.1 = nI i) || kf_hold cd r) && (!decide ((aCond A)[n].1 = nI i) || kf_hold (aCond A)[n] r)) → Y (b2 b) (nI n + 1) := by
      intro b hb
      rw [nI_1]
      refine ih z _ ?_
      rw [hb, take_s z, List.all_append]
      simp
    rw [nI_clamp (n := n) (by omega), c0, c1, c2, c3, ej, m_12, nI_add, m_4, nI_add, nI_clamp (n := 4 * (12 * i + rows.length) + j) (by omega), hcell j hj, fm_holds hnum]
    refine bz (fun q => st false (by rw [q]; rfl)) (fun q => ⟨pk_in n 4 (by omega), fun q' => st true (by rw [q, decide_eq_false q']; rfl), fun q' => ⟨pk_in n 4 (by omega), pk_in n 4 (by omega), pk_in n 4 (by omega), ik 144 (by omega), ?_⟩⟩)
    have hh' : kf_hold (aCond A)[n] r = kf_holdv (aCond A)[n].2.2.1 (aCond A)[n].2.2.2 (r.2 j) := by
      unfold kf_hold
      rw [ej, nI_clamp (n := j) (by omega)]
    exact bz (fun w => st false (by rw [q, decide_eq_true q', hh', w]; rfl)) (fun w => st true (by rw [q, decide_eq_true q', hh', w]; rfl))
/-- a choice of rows -/
def cAt (S : qm_S) (n : Nat) (rss : Nat → List qkRow) (at' : Nat → Nat) (Mt : Nat → qkRow) : Prop := ∀ s, s < n → rM S s (rss s) ∧ S.2 67 s = nI (at' s) ∧ (rss s)[at' s]? = some (Mt s)
theorem fm_cellAt {S : qm_S} {n s c : Nat} {rss : Nat → List qkRow} {at' : Nat → Nat} {Mt : Nat → qkRow} (hn : n ≤ 3) (h : cAt S n rss at' Mt) (hs : s < n) (hc : c < 4) : f_X8_cellAt (nI s) (nI c) S = (Mt s).2 c ∧ p_X8_cellAt (nI s) (nI c) S := by
  obtain ⟨⟨_, h2, h3⟩, h4, h5⟩ := h s hs
  have hl := (List.getElem?_eq_some_iff.mp h5).1
  unfold f_X8_cellAt p_X8_cellAt
  rw [nI_clamp (n := s) (by omega), h4, m_12, nI_add, m_4, nI_add, nI_clamp (n := 4 * (12 * s + at' s) + c) (by omega)]
  exact ⟨h3 _ _ h5 c hc, pk_in s 3 (by omega), ik 144 (by omega)⟩
def kf_lall (ls : List qkC) (Mt : Nat → qkRow) : Bool := ls.all (fun l => kf_lholds l (Mt l.1.toNatClampNeg) (Mt l.2.2.1.toNatClampNeg))
theorem km_areLinked {A : qkA} {S : qm_S} {n : Nat} {rss : Nat → List qkRow} {at' : Nat → Nat} {Mt : Nat → qkRow} {K : Int32 → Prop} (hD : cD A S) (hi : iD A) (hn : (aSeat A).length = n) (h : cAt S n rss at' Mt) (hk : K (b2 (kf_lall (aLink A) Mt))) : T_X8_areLinked S K := by
  have hn3 : n ≤ 3 := by rw [← hn]; exact hi.1.1
  have hl3 := hi.2.1.1
  unfold kf_lall at hk
  unfold T_X8_areLinked
  intro X hX
  rw [hD.2.1.1] at hX
  refine lp (P := fun k (x : Int32) => X x (nI k)) (aLink A).length (fun k x => x = b2 (((aLink A).take k).all (fun l => kf_lholds l (Mt l.1.toNatClampNeg) (Mt l.2.2.1.toNatClampNeg)))) (fun k x hk' hI ih => ?_) 0 1 (Nat.zero_le _) rfl
  subst hI
  refine hX _ _ (pk_le (aLink A).length k (fun z => ?_) (fun z => ?_))
  · obtain rfl : k = (aLink A).length := by omega
    rw [List.take_length]
    exact ⟨b2_z, hk⟩
  · have hg : (aLink A)[k]? = some (aLink A)[k] := List.getElem?_eq_getElem z
    obtain ⟨⟨a, b, hab, hb, e1, e2⟩, ⟨ca, hca, eca⟩, ⟨cb, hcb, ecb⟩⟩ := hi.2.1.2 _ (List.getElem_mem z)
    obtain ⟨l1, l2, l3, l4⟩ := hD.2.1.2 k _ hg
    have ih := ih z
    rw [take_s z] at ih
    generalize (aLink A)[k] = l at hg e1 e2 eca ecb l1 l2 l3 l4 ih
    obtain ⟨x1, y1⟩ := fm_cellAt hn3 h (show a < n by omega) hca
    obtain ⟨x2, y2⟩ := fm_cellAt hn3 h (show b < n by omega) hcb
    have hlh : kf_lholds l (Mt l.1.toNatClampNeg) (Mt l.2.2.1.toNatClampNeg) = (kf_num ((Mt a).2 ca) && decide ((Mt a).2 ca = (Mt b).2 cb)) := by
      unfold kf_lholds
      rw [e1, e2, eca, ecb, nI_clamp (n := a) (by omega), nI_clamp (n := b) (by omega), nI_clamp (n := ca) (by omega), nI_clamp (n := cb) (by omega)]
    have st : ∀ r, r = (kf_num ((Mt a).2 ca) && decide ((Mt a).2 ca = (Mt b).2 cb)) → X (b2 (((aLink A).take k).all (fun l => kf_lholds l (Mt l.1.toNatClampNeg) (Mt l.2.2.1.toNatClampNeg)) && r)) (nI k + 1) := by
      intro r hr
      rw [nI_1]
      refine ih _ ?_
      rw [List.all_append, hr, ← hlh]
      simp
    rw [nI_clamp (n := k) (by omega), l1, l2, l3, l4, e1, e2, eca, ecb, x1, x2, fm_num]
    refine ⟨pk_in k 3 (by omega), pk_in k 3 (by omega), y1, bz (fun q => ?_) (fun q => ?_)⟩
    · have := st _ rfl
      rw [q, Bool.false_and] at this
      exact this
    · rw [q] at st
      refine bz (fun w => ?_) (fun w => ⟨pk_in k 3 (by omega), pk_in k 3 (by omega), y2, fun w' => ?_, fun w' => ?_⟩)
      · exact st false (by rw [w]; rfl)
      · exact st false (by rw [w, decide_eq_false w']; rfl)
      · exact st true (by rw [w, decide_eq_true w']; rfl)
