/-! SQ 10: conditions that are sent, guesses, what holds; keys -/
set_option maxRecDepth 100000
theorem fm_sent {A : qkA} {S : qm_S} {w i src : Nat} {cd : qkC} (hD : cD A S) (hi : iD A) (hw : (aCond A)[w]? = some cd) (hs : (aSeat A)[i]? = some (nI src)) (h6 : src < 6) : f_X8_isSent (nI w) (nI i) S = b2 (decide (cd.1 = nI i) && kf_can (src / 2) cd.2.2.1 cd.2.1) ∧ p_X8_isSent (nI w) (nI i) S := by
  have hwl := (List.getElem?_eq_some_iff.mp hw).1
  have hil := (List.getElem?_eq_some_iff.mp hs).1
  have h4 := hi.2.2.1.1
  have h3 := hi.1.1
  obtain ⟨c0, c1, c2, c3⟩ := hD.2.2.1.2 w cd hw
  unfold f_X8_isSent p_X8_isSent
  rw [nI_clamp (n := w) (by omega), nI_clamp (n := i) (by omega), c0, c1, c2, hD.1.2 i _ hs, fm_half h6, fm_can (by omega)]
  refine ⟨?_, pk_in w 4 (by omega), fun _ => trivial, fun _ => ⟨pk_in i 3 (by omega), pk_in w 4 (by omega), pk_in w 4 (by omega)⟩⟩
  by_cases e : cd.1 = nI i
  · rw [if_pos e, decide_eq_true e, Bool.true_and]
    cases kf_can (src / 2) cd.2.2.1 cd.2.1 <;> rfl
  · rw [if_neg e, decide_eq_false e]
    rfl
def kf_ps (i src : Nat) (cd : qkC) : Bool := decide (cd.1 = nI i) && kf_can (src / 2) cd.2.2.1 cd.2.1
theorem sent_eq {A : qkA} {i src : Nat} : kf_sent A (nI i) src = (aCond A).filter (kf_ps i src) := by
  unfold kf_sent kf_own
  rw [List.filter_filter]
  apply List.filter_congr
  intro cd _
  unfold kf_ps
  rw [Bool.and_comm]
theorem km_manySent {A : qkA} {S : qm_S} {i src : Nat} {K : Int32 → Prop} (hD : cD A S) (hi : iD A) (hs : (aSeat A)[i]? = some (nI src)) (h6 : src < 6) (hk : K (nI (kf_sent A (nI i) src).length)) : T_X8_manySent (nI i) S K := by
  have h4 := hi.2.2.1.1
  rw [sent_eq] at hk
  unfold T_X8_manySent
  intro X hX
  refine lp (P := fun n (x : Int32) => X x (nI n)) (aCond A).length (fun n x => x = nI (((aCond A).take n).filter (kf_ps i src)).length) (fun n x hn hI ih => ?_) 0 0 (Nat.zero_le _) rfl
  subst hI
  refine hX _ _ ?_
  rw [hD.2.2.1.1]
  refine pk_le _ n (fun z => ?_) (fun z => ?_)
  · obtain rfl : n = (aCond A).length := by omega
    rw [List.take_length]
    exact hk
  · have hg : (aCond A)[n]? = some (aCond A)[n] := List.getElem?_eq_getElem z
    obtain ⟨e, p⟩ := fm_sent hD hi hg hs h6
    rw [e, nI_1, Int32.add_zero, nI_1]
    refine ⟨p, bz (fun q => ih z _ ?_) (fun q => ih z _ ?_)⟩
    · rw [take_s z, List.filter_append, List.filter_cons_of_neg (by unfold kf_ps; rw [q]; simp)]
      simp
    · rw [take_s z, List.filter_append, List.filter_cons_of_pos (by unfold kf_ps; rw [q])]
      simp
theorem guess_eq {z n : Nat} (hz : z ≤ 12) (hn : n ≤ 4) : kf_guess (nI z) n = if 1 ≤ nI (z / 2 ^ n) then nI (z / 2 ^ n) else 1 := by
  unfold kf_guess
  have hs : nI z >>> (nI n &&& 31) = nI (z / 2 ^ n) := by
    refine pk_shrN (by omega) _ n ?_
    have : n = 0 ∨ n = 1 ∨ n = 2 ∨ n = 3 ∨ n = 4 := by omega
    rcases this with rfl | rfl | rfl | rfl | rfl <;> decide
  rw [hs]
  have hle : z / 2 ^ n ≤ 12 := Nat.le_trans (Nat.div_le_self _ _) hz
  generalize z / 2 ^ n = y at hle
  have e1 : ((1 : Int32) < nI y) ↔ 1 < y := nI_ltI (a := 1) (by decide) (by omega)
  have e2 : ((1 : Int32) ≤ nI y) ↔ 1 ≤ y := nI_leI (a := 1) (by decide) (by omega)
  by_cases a : 1 < y
  · rw [if_pos (e1.mpr a), if_pos (e2.mpr (by omega))]
  · rw [if_neg (fun q => a (e1.mp q))]
    by_cases b : 1 ≤ y
    · rw [if_pos (e2.mpr b)]
      obtain rfl : y = 1 := by omega
      rfl
    · rw [if_neg (fun q => b (e2.mp q))]
theorem km_guess {A : qkA} {S : qm_S} {i src : Nat} {K : Int32 → Prop} (hD : cD A S) (hi : iD A) (hs : (aSeat A)[i]? = some (nI src)) (h6 : src < 6) (h21 : S.2 21 src = aSr A src 5) (hz : ∃ z, z ≤ 12 ∧ aSr A src 5 = nI z) (hk : K (kf_guess (aSr A src 5) (kf_sent A (nI i) src).length)) : T_X8_guess (nI i) S K := by
  have hil := (List.getElem?_eq_some_iff.mp hs).1
  have h3 := hi.1.1
  obtain ⟨z, hz, e⟩ := hz
  have hn4 : (kf_sent A (nI i) src).length ≤ 4 := by
    rw [sent_eq]
    exact Nat.le_trans (List.length_filter_le _ _) hi.2.2.1.1
  rw [e, guess_eq hz hn4] at hk
  unfold T_X8_guess
  rw [nI_clamp (n := i) (by omega), hD.1.2 i _ hs, nI_clamp (n := src) (by omega), h21, e]
  refine ⟨pk_in i 3 (by omega), pk_in src 6 h6, km_manySent hD hi hs h6 ?_⟩
  generalize (kf_sent A (nI i) src).length = n at hk hn4
  intro X hX
  have key : ∀ (n y : Nat), n ≤ 4 → y ≤ 12 → K (if 1 ≤ nI (y / 2 ^ n) then nI (y / 2 ^ n) else 1) → X (nI y) (nI n) := by
    intro n
    induction n with
    | zero =>
      intro y _ hy hk
      rw [Nat.pow_zero, Nat.div_one] at hk
      refine hX _ _ (pk_le 0 0 (fun _ => ⟨fun q => ?_, fun q => ?_⟩) (fun q => absurd q (by omega)))
      · rw [if_pos q] at hk
        exact hk
      · rw [if_neg q] at hk
        exact hk
    | succ n ih =>
      intro y hn hy hk
      refine hX _ _ (pk_le (n + 1) 0 (fun q => absurd q (by omega)) (fun _ => ?_))
      have e2 : nI y / (2 : Int32) = nI (y / 2) := pk_div (d := 2) (by omega) (by decide) (by decide)
      rw [pk_m1, e2]
      refine ih (y / 2) (by omega) (by omega) ?_
      rw [Nat.div_div_eq_div_mul, ← Nat.pow_succ']
      exact hk
  exact key n z hn4 hz hk
theorem all_flt {α : Type} {p q : α → Bool} : ∀ {l : List α}, (l.filter p).all q = l.all (fun a => !p a || q a) := by
  intro l
  induction l with
  | nil => rfl
  | cons x l ih =>
    cases hp : p x with
    | false => rw [List.filter_cons_of_neg (by rw [hp]; simp), List.all_cons, ih, hp]; rfl
    | true => rw [List.filter_cons_of_pos hp, List.all_cons, List.all_cons, ih, hp]; rfl
theorem cw_of {A : qkA} (hi : iD A) {n : Nat} {cd : qkC} (hg : (aCond A)[n]? = some cd) : (∃ j, j < 4 ∧ cd.2.1 = nI j) ∧ (cd.2.2.1 = 0 → kf_num cd.2.2.2 = true) := by
  have := hi.2.2.1.2 cd (List.mem_of_getElem? hg)
  exact ⟨this.2.1, this.2.2.2⟩
theorem km_holdSent {A : qkA} {S : qm_S} {i src row : Nat} {r : qkRow} {K : Int32 → Prop} (hD : cD A S) (hi : iD A) (hs : (aSeat A)[i]? = some (nI src)) (h6 : src < 6) (hr12 : row < 12) (hr : rRow (S.2 2) (S.2 3) (12 * src + row) r) (hk : K (b2 (kf_all (kf_sent A (nI i) src) r))) : T_X8_holdSent (nI i) (nI row) S K := by
  have h4 := hi.2.2.1.1
  have hil := (List.getElem?_eq_some_iff.mp hs).1
  have h3 := hi.1.1
  unfold kf_all at hk
  rw [sent_eq, all_flt] at hk
  unfold T_X8_holdSent
  intro X hX
  refine lp (P := fun n (x : Int32) => X x (nI n)) (aCond A).length (fun n x => x = b2 (((aCond A).take n).all (fun cd => !kf_ps i src cd || kf_hold cd r))) (fun n x hn hI ih => ?_) 0 1 (Nat.zero_le _) rfl
  subst hI
  refine hX _ _ ?_
  rw [hD.2.2.1.1, nI_clamp (n := i) (by omega), hD.1.2 i _ hs]
  refine pk_le _ n (fun z => ?_) (fun z => ?_)
  · obtain rfl : n = (aCond A).length := by omega
    rw [List.take_length]
    exact ⟨b2_z, hk⟩
  · have hg : (aCond A)[n]? = some (aCond A)[n] := List.getElem?_eq_getElem z
    obtain ⟨e, p⟩ := fm_sent hD hi hg hs h6
    obtain ⟨⟨j, hj, ej⟩, hnum⟩ := cw_of hi hg
    obtain ⟨c0, c1, c2, c3⟩ := hD.2.2.1.2 n _ hg
    have st : ∀ b, b = (((aCond A).take n).all (fun cd => !kf_ps i src cd || kf_hold cd r) && (!kf_ps i src (aCond A)[n] || kf_hold (aCond A)[n] r)) → X (b2 b) (nI n + 1) := by
      intro b hb
      rw [nI_1]
      refine ih z _ ?_
      rw [hb, take_s z, List.all_append]
      simp
    have hps : kf_ps i src (aCond A)[n] = (decide ((aCond A)[n].1 = nI i) && kf_can (src / 2) (aCond A)[n].2.2.1 (aCond A)[n].2.1) := rfl
    rw [e, ← hps, nI_clamp (n := n) (by omega), c1, c2, c3, ej, m_12, nI_add, m_4, nI_add, nI_clamp (n := 4 * (12 * src + row) + j) (by omega), hr.2 j hj, fm_holds hnum]
    refine ⟨pk_in i 3 (by omega), pk_in n 4 (by omega), bz (fun q => st false (by rw [q]; rfl)) (fun q => ⟨p, bz (fun q' => st true (by rw [q, q']; rfl)) (fun q' => ⟨pk_in n 4 (by omega), pk_in n 4 (by omega), ik 288 (by omega), ?_⟩)⟩)⟩
    have hh : kf_hold (aCond A)[n] r = kf_holdv (aCond A)[n].2.2.1 (aCond A)[n].2.2.2 (r.2 j) := by
      unfold kf_hold
      rw [ej, nI_clamp (n := j) (by omega)]
    exact bz (fun w => st false (by rw [q, q', hh, w]; rfl)) (fun w => st true (by rw [q, q', hh, w]; rfl))
/-- rows that have come for a seat -/
def rSeat (S : qm_S) (i : Nat) (raw : List qkRow) : Prop := S.2 57 i = nI raw.length ∧ raw.length ≤ 12 ∧ rRows (S.2 58) (S.2 59) (12 * i) raw
theorem km_holdHere {A : qkA} {S : qm_S} {i row : Nat} {r : qkRow} {K : Int32 → Prop} (hD : cD A S) (hi : iD A) (hi3 : i < 3) (hr12 : row < 12) (hr : rRow (S.2 58) (S.2 59) (12 * i + row) r) (hk : K (b2 (kf_all (kf_own A (nI i)) r))) : T_X8_holdHere (nI i) (nI row) S K := by
  have h4 := hi.2.2.1.1
  unfold kf_all kf_own at hk
  rw [all_flt] at hk
  unfold T_X8_holdHere
  intro X hX
  refine lp (P := fun n (x : Int32) => X x (nI n)) (aCond A).length (fun n x => x = b2 (((aCond A).take n).all (fun cd => !decide (cd.1 = nI i) || kf_hold cd r))) (fun n x hn hI ih => ?_) 0 1 (Nat.zero_le _) rfl
  subst hI
  refine hX _ _ ?_
  rw [hD.2.2.1.1]
  refine pk_le _ n (fun z => ?_) (fun z => ?_)
  · obtain rfl : n = (aCond A).length := by omega
    rw [List.take_length]
    exact ⟨b2_z, hk⟩
  · have hg : (aCond A)[n]? = some (aCond A)[n] := List.getElem?_eq_getElem z
    obtain ⟨⟨j, hj, ej⟩, hnum⟩ := cw_of hi hg
    obtain ⟨c0, c1, c2, c3⟩ := hD.2.2.1.2 n _ hg
    have st : ∀ b, b = (((aCond A).take n).all (fun cd => !decide (cd.1 = nI i) || kf_hold cd r) && (!decide ((aCond A)[n].1 = nI i) || kf_hold (aCond A)[n] r)) → X (b2 b) (nI n + 1) := by
      intro b hb
      rw [nI_1]
      refine ih z _ ?_
      rw [hb, take_s z, List.all_append]
      simp
    rw [nI_clamp (n := n) (by omega), c0, c1, c2, c3, ej, m_12, nI_add, m_4, nI_add, nI_clamp (n := 4 * (12 * i + row) + j) (by omega), hr.2 j hj, fm_holds hnum]
    refine ⟨pk_in n 4 (by omega), bz (fun q => st false (by rw [q]; rfl)) (fun q => ⟨pk_in n 4 (by omega), fun q' => st true (by rw [q, decide_eq_false q']; rfl), fun q' => ⟨pk_in n 4 (by omega), pk_in n 4 (by omega), ik 144 (by omega), ?_⟩⟩)⟩
    have hh : kf_hold (aCond A)[n] r = kf_holdv (aCond A)[n].2.2.1 (aCond A)[n].2.2.2 (r.2 j) := by
      unfold kf_hold
      rw [ej, nI_clamp (n := j) (by omega)]
    exact bz (fun w => st false (by rw [q, decide_eq_true q', hh, w]; rfl)) (fun w => st true (by rw [q, decide_eq_true q', hh, w]; rfl))
/-- the keys of a question -/
def rKeys (S : qm_S) (ks : List Int32) : Prop := ∀ (k : Nat) (x : Int32), ks[k]? = some x → S.2 64 k = x
theorem km_isKey {S : qm_S} {x : Int32} {i j : Nat} {ks : List Int32} {K : Int32 → Prop} (hs : rKeys S ks) (hij : i ≤ j) (hj : j ≤ ks.length) (h12 : ks.length ≤ 12) (hk : K (b2 (((ks.drop i).take (j - i)).any (fun k => decide (x = k))))) : T_X8_isKey x (nI i) (nI j) S K := by
  unfold T_X8_isKey
  intro X hX
  refine lp (P := fun n (y : Int32) => X y (nI n)) j (fun n y => i ≤ n ∧ y = b2 (((ks.drop i).take (n - i)).any (fun k => decide (x = k)))) (fun n y hn hI ih => ?_) i 0 hij ⟨Nat.le_refl _, by rw [Nat.sub_self]; rfl⟩
  obtain ⟨hin, rfl⟩ := hI
  refine hX _ _ (pk_le j n (fun z => ?_) (fun z => ?_))
  · obtain rfl : n = j := by omega
    exact ⟨b2_z, hk⟩
  · have hg : ks[n]? = some (ks[n]'(by omega)) := List.getElem?_eq_getElem (by omega)
    have htk : (ks.drop i).take (n + 1 - i) = (ks.drop i).take (n - i) ++ [ks[n]'(by omega)] := by
      rw [show n + 1 - i = (n - i) + 1 by omega, take_s (by rw [List.length_drop]; omega)]
      congr 2
      rw [List.getElem_drop]
      congr 1
      omega
    have st : ∀ b, b = (((ks.drop i).take (n - i)).any (fun k => decide (x = k)) || decide (x = ks[n]'(by omega))) → X (b2 b) (nI n + 1) := by
      intro b hb
      rw [nI_1]
      refine ih z _ ⟨by omega, ?_⟩
      rw [hb, htk, List.any_append]
      simp
    rw [nI_clamp (n := n) (by omega), hs n _ hg]
    refine bn (fun q => st true (by rw [q]; rfl)) (fun q => ⟨pk_in n 12 (by omega), fun q' => st false (by rw [q, decide_eq_false (fun w => q' w.symm)]; rfl), fun q' => st true (by rw [q, decide_eq_true q'.symm]; rfl)⟩)
