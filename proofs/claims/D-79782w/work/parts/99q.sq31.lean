/-! SQ 31: steps done: what the rows are behind them, and how they are taken back; the bundle laid aside -/
set_option maxRecDepth 100000
theorem lay_at {a b : List qkRow} {r : qkRow} (h1 : ∀ q ∈ a, q.1 < r.1) (h2 : ∀ q ∈ b, r.1 < q.1) : kf_lay (a ++ b) r = a ++ r :: b := by
  have hp : ∀ q ∈ a, (fun q : qkRow => decide (¬ r.1 ≤ q.1)) q = true := fun q hq => decide_eq_true (Int32.not_le.mpr (h1 q hq))
  unfold kf_lay
  rw [List.takeWhile_append_of_pos hp, List.dropWhile_append_of_pos hp]
  cases b with
  | nil => simp
  | cons x xs =>
    have hx : decide (¬ r.1 ≤ x.1) = false := decide_eq_false (fun z => z (Int32.le_of_lt (h2 x (List.mem_cons_self ..))))
    rw [List.takeWhile_cons_of_neg (p := fun q : qkRow => decide (¬ r.1 ≤ q.1)) (by rw [hx]; decide), List.dropWhile_cons_of_neg (p := fun q : qkRow => decide (¬ r.1 ≤ q.1)) (by rw [hx]; decide)]
    simp
theorem at_split {a b : List qkRow} {r : qkRow} (h1 : ∀ q ∈ a, q.1 < r.1) : kf_at (a ++ r :: b) r.1 = some a.length := by
  unfold kf_at
  rw [List.findIdx?_eq_some_iff_getElem]
  refine ⟨by simp, ?_, fun j hj => ?_⟩
  · rw [List.getElem_append_right (Nat.le_refl _)]
    simp
  · rw [List.getElem_append_left hj]
    have := lt_ne (h1 _ (List.getElem_mem hj))
    simpa using this
theorem split_at {rows : List qkRow} {k : Nat} {r : qkRow} (ha : qkAsc rows) (hk : rows[k]? = some r) : rows = rows.take k ++ r :: rows.drop (k + 1) ∧ (∀ q ∈ rows.take k, q.1 < r.1) ∧ (∀ q ∈ rows.drop (k + 1), r.1 < q.1) ∧ rows.eraseIdx k = rows.take k ++ rows.drop (k + 1) := by
  obtain ⟨hl, e⟩ := List.getElem?_eq_some_iff.mp hk
  have e0 : rows = rows.take k ++ r :: rows.drop (k + 1) := by rw [← e, List.getElem_cons_drop, List.take_append_drop]
  refine ⟨e0, ?_, ?_, List.eraseIdx_eq_take_drop_succ rows k⟩
  · have ha' := ha
    rw [qkAsc, e0, List.pairwise_append] at ha'
    exact fun q hq => ha'.2.2 q hq r (List.mem_cons_self ..)
  · have ha' := ha
    rw [qkAsc, e0, List.pairwise_append, List.pairwise_cons] at ha'
    exact fun q hq => ha'.2.1.1 q hq
def kf_lun (R' : List qkRow) (d : qkDone) : List qkRow := match d.2.2 with
  | none => R'
  | some r => R'.eraseIdx ((kf_at R' r.1).getD 0)
def kf_lre (L : List qkRow) (d : qkDone) : List qkRow := match d.2.1 with
  | none => L
  | some q => kf_lay L q
/-- rows ahead of a step, behind it, and the step -/
def rBk (R R' : List qkRow) (d : qkDone) : Prop := qkAsc R' ∧ R'.length ≤ 12 ∧ (∀ r, d.2.2 = some r → ∃ k, kf_at R' r.1 = some k ∧ R'[k]? = some r) ∧ kf_lre (kf_lun R' d) d = R
theorem bk_add {R : List qkRow} {r : qkRow} {s : Nat} (ha : qkAsc R) (hn : ∀ q ∈ R, ¬ q.1 = r.1) (hl : R.length ≤ 11) : rBk R (kf_lay R r) (s, none, some r) := by
  obtain ⟨l1, l2, _⟩ := lay_asc ha hn
  obtain ⟨p, hp, e, h1, h2⟩ := lay_split ha hn
  have hlt : (R.take p).length = p := by rw [List.length_take]; omega
  have hat : kf_at (kf_lay R r) r.1 = some p := by
    rw [e, at_split h1, hlt]
  refine ⟨l1, by omega, fun q hq => ?_, ?_⟩
  · cases hq
    refine ⟨p, hat, ?_⟩
    rw [e, List.getElem?_append_right (by omega), hlt, Nat.sub_self]
    rfl
  · show (kf_lay R r).eraseIdx ((kf_at (kf_lay R r) r.1).getD 0) = R
    rw [hat, e]
    show (R.take p ++ r :: R.drop p).eraseIdx p = R
    rw [List.eraseIdx_append_of_length_le (by omega), hlt, Nat.sub_self, List.eraseIdx_zero, List.tail_cons, List.take_append_drop]
theorem set_split {rows : List qkRow} {k : Nat} {q : qkRow} (hk : k < rows.length) : rows.set k q = rows.take k ++ q :: rows.drop (k + 1) := by
  rw [List.set_eq_take_append_cons_drop, if_pos hk]
theorem bk_change {R : List qkRow} {r q : qkRow} {s k : Nat} (ha : qkAsc R) (hk : R[k]? = some r) (hq : q.1 = r.1) (hl : R.length ≤ 12) (ha' : qkAsc (R.set k q)) : rBk R (R.set k q) (s, some r, some q) := by
  obtain ⟨e, h1, h2, h3⟩ := split_at ha hk
  obtain ⟨hkl, _⟩ := List.getElem?_eq_some_iff.mp hk
  have hlt : (R.take k).length = k := by rw [List.length_take]; omega
  have hat : kf_at (R.set k q) q.1 = some k := by
    rw [set_split hkl, at_split (fun x hx => by rw [hq]; exact h1 x hx), hlt]
  refine ⟨ha', by rw [List.length_set]; exact hl, fun x hx => ?_, ?_⟩
  · cases hx
    exact ⟨k, hat, List.getElem?_set_self hkl⟩
  · show kf_lay ((R.set k q).eraseIdx ((kf_at (R.set k q) q.1).getD 0)) r = R
    rw [hat]
    show kf_lay ((R.set k q).eraseIdx k) r = R
    rw [set_split hkl, List.eraseIdx_append_of_length_le (by omega), hlt, Nat.sub_self, List.eraseIdx_zero, List.tail_cons, lay_at h1 h2]
    exact e.symm
theorem bk_remove {R : List qkRow} {r : qkRow} {s k : Nat} (ha : qkAsc R) (hk : R[k]? = some r) (hl : R.length ≤ 12) : rBk R (R.eraseIdx k) (s, some r, none) := by
  obtain ⟨e, h1, h2, h3⟩ := split_at ha hk
  have hsub := List.eraseIdx_sublist R k
  refine ⟨ha.sublist hsub, Nat.le_trans hsub.length_le hl, (fun x hx => by cases hx), ?_⟩
  show kf_lay (R.eraseIdx k) r = R
  rw [h3, lay_at h1 h2]
  exact e.symm
theorem back_row {A : qkA} {d : qkDone} : aRow (kf_back A d) = qkU (aRow A) d.1 (kf_lre (kf_lun (aRow A d.1) d) d) := by
  obtain ⟨s, b, a⟩ := d
  cases a with
  | none =>
    cases b with
    | none =>
      funext i
      show aRow A i = qkU (aRow A) s (aRow A s) i
      by_cases e : i = s
      · rw [e, qkU_s]
      · rw [qkU_n e]
    | some q => rfl
  | some r =>
    cases b with
    | none => rfl
    | some q =>
      funext i
      show qkU (qkU (aRow A) s ((aRow A s).eraseIdx ((kf_at (aRow A s) r.1).getD 0))) s (kf_lay (qkU (aRow A) s ((aRow A s).eraseIdx ((kf_at (aRow A s) r.1).getD 0)) s) q) i = qkU (aRow A) s (kf_lay ((aRow A s).eraseIdx ((kf_at (aRow A s) r.1).getD 0)) q) i
      by_cases e : i = s
      · rw [e, qkU_s, qkU_s, qkU_s]
      · rw [qkU_n e, qkU_n e, qkU_n e]
/-! the bundle laid aside -/
theorem wait_bun {A : qkA} {b : List (Nat → Int32)} {l : Nat} : kf_wait (sBun A b) l = sBun (kf_wait A l) b := by
  unfold kf_wait
  by_cases c : kf_full A l = true
  · have c' : kf_full (sBun A b) l = true := c
    rw [if_pos c, if_pos c']
    rfl
  · have c' : ¬ kf_full (sBun A b) l = true := c
    rw [if_neg c, if_neg c']
theorem att_bun {A : qkA} {b : List (Nat → Int32)} {l : Nat} {t d : Int32} {f : Nat → Int32} : kf_attempt (sBun A b) l t d f = ((kf_attempt A l t d f).1, sBun (kf_attempt A l t d f).2.1 b, (kf_attempt A l t d f).2.2) := by
  unfold kf_attempt
  rw [wait_bun]
  by_cases c : kf_late (kf_wait A l) t d = true
  · have c' : kf_late (sBun (kf_wait A l) b) t d = true := c
    rw [if_pos c, if_pos c']
  · have c' : ¬ kf_late (sBun (kf_wait A l) b) t d = true := c
    rw [if_neg c, if_neg c']
    by_cases c2 : aLn A l 6 ≤ 0
    · have c2' : aLn (sBun A b) l 6 ≤ 0 := c2
      rw [if_pos c2, if_pos c2']
      rfl
    · have c2' : ¬ aLn (sBun A b) l 6 ≤ 0 := c2
      rw [if_neg c2, if_neg c2']
      rfl
theorem add_bun {A : qkA} {b : List (Nat → Int32)} {v x1 x2 x3 x4 : Int32} : kf_add (sBun A b) v x1 x2 x3 x4 = ((kf_add A v x1 x2 x3 x4).1, (kf_add A v x1 x2 x3 x4).2.1, sBun (kf_add A v x1 x2 x3 x4).2.2 b) := by
  unfold kf_add
  by_cases c1 : v < 0 ∨ ¬ v < 6
  · rw [if_pos c1, if_pos c1]
  rw [if_neg c1, if_neg c1]
  by_cases c2 : kf_fits (v.toNatClampNeg / 2) (kf_cell4 x1 x2 x3 x4) = false
  · rw [if_pos c2, if_pos c2]
  rw [if_neg c2, if_neg c2]
  by_cases c3 : kf_room A v.toNatClampNeg x1 = false
  · have c3' : kf_room (sBun A b) v.toNatClampNeg x1 = false := c3
    rw [if_pos c3, if_pos c3']
  have c3' : ¬ kf_room (sBun A b) v.toNatClampNeg x1 = false := c3
  rw [if_neg c3, if_neg c3']
  rfl
theorem change_bun {A : qkA} {b : List (Nat → Int32)} {v m c x : Int32} : kf_change (sBun A b) v m c x = ((kf_change A v m c x).1, (kf_change A v m c x).2.1, sBun (kf_change A v m c x).2.2 b) := by
  unfold kf_change
  by_cases c1 : v < 0 ∨ ¬ v < 6
  · rw [if_pos c1, if_pos c1]
  rw [if_neg c1, if_neg c1]
  have e : aRow (sBun A b) = aRow A := rfl
  rw [e]
  cases kf_at (aRow A v.toNatClampNeg) m with
  | none => rfl
  | some k =>
    dsimp only
    by_cases c2 : c < 0 ∨ ¬ c < kf_cols (v.toNatClampNeg / 2)
    · rw [if_pos c2, if_pos c2]
    rw [if_neg c2, if_neg c2]
    by_cases c3 : ((decide (0 < c) || !kf_hasKey (v.toNatClampNeg / 2)) && kf_fit (v.toNatClampNeg / 2) c x) = false
    · rw [if_pos c3, if_pos c3]
    rw [if_neg c3, if_neg c3]
    cases (aRow A v.toNatClampNeg)[k]? with
    | none => rfl
    | some r => rfl
theorem remove_bun {A : qkA} {b : List (Nat → Int32)} {v m : Int32} : kf_remove (sBun A b) v m = ((kf_remove A v m).1, (kf_remove A v m).2.1, sBun (kf_remove A v m).2.2 b) := by
  unfold kf_remove
  by_cases c1 : v < 0 ∨ ¬ v < 6
  · rw [if_pos c1, if_pos c1]
  rw [if_neg c1, if_neg c1]
  have e : aRow (sBun A b) = aRow A := rfl
  rw [e]
  cases kf_at (aRow A v.toNatClampNeg) m with
  | none => rfl
  | some k => rfl
theorem done_sb {A : qkA} {b : List (Nat → Int32)} {f : Nat → Int32} : kf_done (sBun A b) f = ((kf_done A f).1, sBun (kf_done A f).2 b) := by
  unfold kf_done
  rw [add_bun, change_bun, remove_bun]
  dsimp only
  by_cases c0 : f 0 = 0
  · rw [if_pos c0, if_pos c0]
    by_cases c : (kf_add A (f 1) (f 2) (f 3) (f 4) (f 5)).1 = 0
    · rw [if_pos c, if_pos c]
      rfl
    · rw [if_neg c, if_neg c]
  rw [if_neg c0, if_neg c0]
  by_cases c1 : f 0 = 1
  · rw [if_pos c1, if_pos c1]
    by_cases c : (kf_change A (f 1) (f 2) (f 3) (f 4)).1 = 0
    · rw [if_pos c, if_pos c]
      rfl
    · rw [if_neg c, if_neg c]
  rw [if_neg c1, if_neg c1]
  by_cases c : (kf_remove A (f 1) (f 2)).1 = 0
  · rw [if_pos c, if_pos c]
    rfl
  · rw [if_neg c, if_neg c]
theorem isd_sb {b : List (Nat → Int32)} {f : Nat → Int32} {l : Nat} : ∀ {m : Nat} {own : Option qkDone} {fa : Nat → Int32} {A : qkA}, kf_isd f l m own fa (sBun A b) = ((kf_isd f l m own fa A).1, (kf_isd f l m own fa A).2.1, sBun (kf_isd f l m own fa A).2.2 b) := by
  intro m
  induction m with
  | zero => intro own fa A; rfl
  | succ m ih =>
    intro own fa A
    have e15 : aQ (sBun A b) 15 = aQ A 15 := rfl
    have e7 : aLn (sBun A b) l 7 = aLn A l 7 := rfl
    cases own with
    | some d =>
      rw [kf_isd, kf_isd, att_bun, e15]
      dsimp only
      by_cases c : (kf_attempt A l (aQ A 15) (-1) fa).1 = 0
      · rw [if_pos c, if_pos c]
      · rw [if_neg c, if_neg c]
        exact ih
    | none =>
      rw [kf_isd, kf_isd, att_bun, e15, e7]
      dsimp only
      by_cases c : (kf_attempt A l (aQ A 15) (-1) fa).1 = 0
      · rw [if_pos c, if_pos c, done_sb]
      · rw [if_neg c, if_neg c]
        by_cases c7 : aLn A l 7 = 0
        · rw [if_pos c7, if_pos c7]
          exact ih
        · rw [if_neg c7, if_neg c7, done_sb]
          exact ih
theorem isDone_sb {A : qkA} {b : List (Nat → Int32)} {f : Nat → Int32} : kf_isDone (sBun A b) f = ((kf_isDone A f).1, (kf_isDone A f).2.1, sBun (kf_isDone A f).2.2 b) := isd_sb
theorem runF_sb {b : List (Nat → Int32)} : ∀ {fs : List (Nat → Int32)} {k : Nat} {ds : List qkDone} {A : qkA}, kf_runF fs k ds (sBun A b) = ((kf_runF fs k ds A).1, (kf_runF fs k ds A).2.1, sBun (kf_runF fs k ds A).2.2 b) := by
  intro fs
  induction fs with
  | nil => intro k ds A; rfl
  | cons f t ih =>
    intro k ds A
    rw [kf_runF, kf_runF, isDone_sb]
    dsimp only
    by_cases c : (kf_isDone A f).1 = true
    · rw [if_pos c, if_pos c]
      exact ih
    · rw [if_neg c, if_neg c]
theorem back_sb {A : qkA} {b : List (Nat → Int32)} {d : qkDone} : kf_back (sBun A b) d = sBun (kf_back A d) b := by
  obtain ⟨s, x, y⟩ := d
  cases x <;> cases y <;> rfl
theorem backs_sb {A : qkA} {b : List (Nat → Int32)} : ∀ {ds : List qkDone}, kf_backs ds (sBun A b) = sBun (kf_backs ds A) b := by
  intro ds
  induction ds with
  | nil => rfl
  | cons d ds ih =>
    show kf_back (kf_backs ds (sBun A b)) d = sBun (kf_back (kf_backs ds A) d) b
    rw [ih, back_sb]
theorem done_cg {A A' : qkA} {f : Nat → Int32} (hr : aRow A' = aRow A) (hs : aSr A' = aSr A) : (kf_done A' f).1.isSome = (kf_done A f).1.isSome := by
  have ea : (kf_add A' (f 1) (f 2) (f 3) (f 4) (f 5)).1 = (kf_add A (f 1) (f 2) (f 3) (f 4) (f 5)).1 := by
    have hroom : ∀ s a, kf_room A' s a = kf_room A s a := fun s a => by unfold kf_room; rw [hr, hs]
    unfold kf_add
    rw [hroom]
    by_cases e1 : f 1 < 0 ∨ ¬ f 1 < 6
    · rw [if_pos e1, if_pos e1]
    rw [if_neg e1, if_neg e1]
    by_cases e2 : kf_fits ((f 1).toNatClampNeg / 2) (kf_cell4 (f 2) (f 3) (f 4) (f 5)) = false
    · rw [if_pos e2, if_pos e2]
    rw [if_neg e2, if_neg e2]
    by_cases e3 : kf_room A (f 1).toNatClampNeg (f 2) = false
    · rw [if_pos e3, if_pos e3]
    rw [if_neg e3, if_neg e3]
  have ec : (kf_change A' (f 1) (f 2) (f 3) (f 4)).1 = (kf_change A (f 1) (f 2) (f 3) (f 4)).1 := by
    unfold kf_change
    rw [hr]
    by_cases e1 : f 1 < 0 ∨ ¬ f 1 < 6
    · rw [if_pos e1, if_pos e1]
    rw [if_neg e1, if_neg e1]
    cases kf_at (aRow A (f 1).toNatClampNeg) (f 2) with
    | none => rfl
    | some k =>
      dsimp only
      by_cases e2 : f 3 < 0 ∨ ¬ f 3 < kf_cols ((f 1).toNatClampNeg / 2)
      · rw [if_pos e2, if_pos e2]
      rw [if_neg e2, if_neg e2]
      by_cases e3 : ((decide (0 < f 3) || !kf_hasKey ((f 1).toNatClampNeg / 2)) && kf_fit ((f 1).toNatClampNeg / 2) (f 3) (f 4)) = false
      · rw [if_pos e3, if_pos e3]
      rw [if_neg e3, if_neg e3]
      cases (aRow A (f 1).toNatClampNeg)[k]? with
      | none => rfl
      | some r => rfl
  have er : (kf_remove A' (f 1) (f 2)).1 = (kf_remove A (f 1) (f 2)).1 := by
    unfold kf_remove
    rw [hr]
    by_cases e1 : f 1 < 0 ∨ ¬ f 1 < 6
    · rw [if_pos e1, if_pos e1]
    rw [if_neg e1, if_neg e1]
    cases kf_at (aRow A (f 1).toNatClampNeg) (f 2) with
    | none => rfl
    | some k => rfl
  unfold kf_done
  rw [ea, ec, er]
  by_cases c0 : f 0 = 0
  · rw [if_pos c0, if_pos c0]
    by_cases c : (kf_add A (f 1) (f 2) (f 3) (f 4) (f 5)).1 = 0
    · rw [if_pos c, if_pos c]; exact Eq.refl true
    · rw [if_neg c, if_neg c]
  rw [if_neg c0, if_neg c0]
  by_cases c1 : f 0 = 1
  · rw [if_pos c1, if_pos c1]
    by_cases c : (kf_change A (f 1) (f 2) (f 3) (f 4)).1 = 0
    · rw [if_pos c, if_pos c]; exact Eq.refl true
    · rw [if_neg c, if_neg c]
  rw [if_neg c1, if_neg c1]
  by_cases c : (kf_remove A (f 1) (f 2)).1 = 0
  · rw [if_pos c, if_pos c]; exact Eq.refl true
  · rw [if_neg c, if_neg c]
