/-! SQ 36: the chain of rows behind the steps done -/
set_option maxRecDepth 100000
def rGd (Z : Nat → Nat → Int32) (s : Nat) (rows : List qkRow) : Prop := qkRs rows ∧ qkAsc rows ∧ (s < 2 → ∀ n, n ≤ 60 → Z s 4 = nI n → ∀ r ∈ rows, ∃ m, m < n ∧ r.1 = nI m)
def rCh (Z : Nat → Nat → Int32) : List qkDone → (Nat → List qkRow) → (Nat → List qkRow) → Prop
  | [], R, R' => R' = R
  | d :: ds, R, R' => d.1 < 6 ∧ (∀ s, s < 6 → rGd Z s (R s)) ∧ ∃ R1, rBk (R d.1) (R1 d.1) d ∧ (∀ s, s ≠ d.1 → R1 s = R s) ∧ rCh Z ds R1 R'
theorem nI_eq60 {a b : Nat} (ha : a ≤ 60) (hb : b ≤ 61) (h : nI a = nI b) : a = b := by
  have h1 := congrArg Int32.toInt h
  rw [nI_toInt (show a < 2 ^ 31 by omega), nI_toInt (show b < 2 ^ 31 by omega)] at h1
  omega
theorem gd_of {A : qkA} {s : Nat} (h : iR A) (hs : s < 6) : rGd (aSr A) s (aRow A s) := by
  obtain ⟨r1, r2, r3, r4⟩ := h s hs
  refine ⟨r1, r2, fun w n hn e r hr => ?_⟩
  obtain ⟨n', n1, n2, n3⟩ := r3 w
  have : n = n' := nI_eq60 hn (by omega) (e.symm.trans n2)
  rw [this]
  exact n3 r hr
theorem rGd.mono {A A' : qkA} {s : Nat} {rows : List qkRow} (h : rGd (aSr A) s rows) (hi : iR A) (hs : s < 6) (e : aSr A' s 4 = aSr A s 4 ∨ aSr A' s 4 = aSr A s 4 + 1) : rGd (aSr A') s rows := by
  obtain ⟨r1, r2, r3⟩ := h
  refine ⟨r1, r2, fun w n hn e' r hr => ?_⟩
  obtain ⟨n', n1, n2, _⟩ := (hi s hs).2.2.1 w
  obtain ⟨m, hm, em⟩ := r3 w n' n1 n2 r hr
  refine ⟨m, ?_, em⟩
  rcases e with e | e
  · rw [n2, e'] at e
    have := nI_eq60 hn (by omega) e
    omega
  · rw [n2, nI_1, e'] at e
    have := nI_eq60 hn (by omega) e
    omega
theorem rCh.mono {A A' : qkA} (hi : iR A) (e : ∀ s, s < 6 → aSr A' s 4 = aSr A s 4 ∨ aSr A' s 4 = aSr A s 4 + 1) : ∀ {ds : List qkDone} {R R' : Nat → List qkRow}, rCh (aSr A) ds R R' → rCh (aSr A') ds R R' := by
  intro ds
  induction ds with
  | nil => exact fun h => h
  | cons d ds ih =>
    rintro R R' ⟨h1, h2, R1, h3, h4, h5⟩
    exact ⟨h1, fun s hs => (h2 s hs).mono hi hs (e s hs), R1, h3, h4, ih h5⟩
theorem rCh.split {Z : Nat → Nat → Int32} : ∀ {a b : List qkDone} {R R' : Nat → List qkRow}, rCh Z (a ++ b) R R' → ∃ Rm, rCh Z a R Rm ∧ rCh Z b Rm R' := by
  intro a
  induction a with
  | nil => exact fun {b R R'} h => ⟨R, rfl, h⟩
  | cons d ds ih =>
    rintro b R R' ⟨h1, h2, R1, h3, h4, h5⟩
    obtain ⟨Rm, g1, g2⟩ := ih h5
    exact ⟨Rm, ⟨h1, h2, R1, h3, h4, g1⟩, g2⟩
theorem rCh.snoc {Z : Nat → Nat → Int32} {d : qkDone} {R'' : Nat → List qkRow} : ∀ {ds : List qkDone} {R R' : Nat → List qkRow}, rCh Z ds R R' → d.1 < 6 → (∀ s, s < 6 → rGd Z s (R' s)) → rBk (R' d.1) (R'' d.1) d → (∀ s, s ≠ d.1 → R'' s = R' s) → rCh Z (ds ++ [d]) R R'' := by
  intro ds
  induction ds with
  | nil =>
    rintro R R' rfl h1 h2 h3 h4
    exact ⟨h1, h2, R'', h3, h4, rfl⟩
  | cons x ds ih =>
    rintro R R' ⟨k1, k2, R1, k3, k4, k5⟩ h1 h2 h3 h4
    exact ⟨k1, k2, R1, k3, k4, ih k5 h1 h2 h3 h4⟩
/-- what a step done does to the rows -/
theorem done_rows {A : qkA} {T M : Nat} {f : Nat → Int32} {d : qkDone} (hi : qkI T M A) (hf : fOk f) (hd : (kf_done A f).1 = some d) : d.1 < 6 ∧ rBk (aRow A d.1) (aRow (kf_done A f).2 d.1) d ∧ (∀ s, s ≠ d.1 → aRow (kf_done A f).2 s = aRow A s) ∧ ∀ s, aSr (kf_done A f).2 s 4 = aSr A s 4 ∨ aSr (kf_done A f).2 s 4 = aSr A s 4 + 1 := by
  refine done_cases hi hf hd (fun s hs es c0 z1 z2 ed e2 hb => ?_) (fun s p j r hs es c1 hj hj2 ej hat hg hrm hfit ed e2 hb => ?_) (fun s p r hs es c0 c1 hat hg hrm ed e2 hb => ?_)
  · rw [e2]
    have e1 : d.1 = s := by rw [ed]
    rw [e1]
    have w : aRow (kf_written (kf_add1 A s (f 2) (kf_cell4 (f 2) (f 3) (f 4) (f 5))) s) s = kf_lay (aRow A s) (kf_mark A s (f 2), kf_keep (s / 2) (kf_cell4 (f 2) (f 3) (f 4) (f 5)) 4) := qkU_s
    refine ⟨hs, by rw [w]; exact hb, fun q hq => qkU_n hq, fun q => ?_⟩
    by_cases e : q = s
    · right
      rw [e]
      have w2 : aSr (kf_written (kf_add1 A s (f 2) (kf_cell4 (f 2) (f 3) (f 4) (f 5))) s) s = upd (aSr A s) 4 (aSr A s 4 + 1) := qkU_s
      rw [w2, upd_s]
    · left
      have w2 : aSr (kf_written (kf_add1 A s (f 2) (kf_cell4 (f 2) (f 3) (f 4) (f 5))) s) q = aSr A q := qkU_n e
      rw [w2]
  · rw [e2]
    have e1 : d.1 = s := by rw [ed]
    rw [e1]
    have w : aRow (kf_chg A s p r (nI j) (f 4)) s = (aRow A s).set p (r.1, kf_with r.2 (nI j) (kf_kept (s / 2) (nI j) (f 4))) := qkU_s
    exact ⟨hs, by rw [w]; exact hb, fun q hq => qkU_n hq, fun q => Or.inl rfl⟩
  · rw [e2]
    have e1 : d.1 = s := by rw [ed]
    rw [e1]
    have w : aRow (kf_written (sRow A (qkU (aRow A) s ((aRow A s).eraseIdx p))) s) s = (aRow A s).eraseIdx p := qkU_s
    exact ⟨hs, by rw [w]; exact hb, fun q hq => qkU_n hq, fun q => Or.inl rfl⟩
/-- a step's three attempts -/
theorem isd_step {f : Nat → Int32} {l : Nat} {M : Nat} {ds : List qkDone} {R0 : Nat → List qkRow} (hl : l < 3) (hM : M + 1 ≤ 2 ^ 20) (hf : fOk f) : ∀ {m : Nat} {fa : Nat → Int32} {A : qkA} {T : Nat}, qkI T M A → T + 40 * m ≤ 2 ^ 20 → rCh (aSr A) ds R0 (aRow A) →
    qkI (T + 40 * m) (M + 1) (kf_isd f l m none fa A).2.2 ∧ rCh (aSr (kf_isd f l m none fa A).2.2) (ds ++ (kf_isd f l m none fa A).2.1.toList) R0 (aRow (kf_isd f l m none fa A).2.2) ∧ ((kf_isd f l m none fa A).1 = true → (kf_isd f l m none fa A).2.1.isSome = true) := by
  have ownI : ∀ (m : Nat) (fa : Nat → Int32) (d : qkDone) (A : qkA) (T M' : Nat), qkI T M' A → T + 40 * m ≤ 2 ^ 20 → qkI (T + 40 * m) M' (kf_isd f l m (some d) fa A).2.2 := by
    intro m
    induction m with
    | zero => intro fa d A T M' h _; exact h
    | succ m ih =>
      intro fa d A T M' h hT
      have h' : qkI (T + 40) M' (kf_attempt A l (aQ A 15) (-1) fa).2.1 := h.attempt hl (by omega)
      rw [kf_isd]
      by_cases c : (kf_attempt A l (aQ A 15) (-1) fa).1 = 0
      · rw [if_pos c]
        exact h'.le (by omega) (Nat.le_refl _)
      · rw [if_neg c]
        have := ih (kf_attempt A l (aQ A 15) (-1) fa).2.2 d _ (T + 40) M' h' (by omega)
        rw [show T + 40 * (m + 1) = T + 40 + 40 * m by omega]
        exact this
  -- behind a step that was tried
  have tried : ∀ (B : qkA) (T : Nat), qkI T M B → rCh (aSr B) ds R0 (aRow B) → qkI T (M + 1) (kf_done B f).2 ∧ rCh (aSr (kf_done B f).2) (ds ++ (kf_done B f).1.toList) R0 (aRow (kf_done B f).2) := by
    intro B T hB hc
    refine ⟨ki_done hB (by omega), ?_⟩
    cases hd : (kf_done B f).1 with
    | none =>
      rw [done_same hd]
      show rCh (aSr B) (ds ++ []) R0 (aRow B)
      rw [List.append_nil]
      exact hc
    | some d =>
      obtain ⟨d1, d2, d3, d4⟩ := done_rows hB hf hd
      exact (rCh.mono hB.1 (fun s _ => d4 s) hc).snoc d1 (fun s hs => (gd_of hB.1 hs).mono hB.1 hs (d4 s)) d2 d3
  intro m
  induction m with
  | zero =>
    intro fa A T h hT hc
    refine ⟨h.le (by omega) (by omega), ?_, fun z => by cases z⟩
    show rCh (aSr A) (ds ++ []) R0 (aRow A)
    rw [List.append_nil]
    exact hc
  | succ m ih =>
    intro fa A T h hT hc
    have htm : qkTm A (kf_attempt A l (aQ A 15) (-1) fa).2.1 := qkTm.attempt
    have h' : qkI (T + 40) M (kf_attempt A l (aQ A 15) (-1) fa).2.1 := h.attempt hl (by omega)
    have hc' : rCh (aSr (kf_attempt A l (aQ A 15) (-1) fa).2.1) ds R0 (aRow (kf_attempt A l (aQ A 15) (-1) fa).2.1) := by
      rw [htm.2.2.1, htm.2.2.2.2.1]
      exact hc
    rw [kf_isd]
    generalize kf_attempt A l (aQ A 15) (-1) fa = Q at htm h' hc'
    obtain ⟨rc, B, fb⟩ := Q
    dsimp only at htm h' hc' ⊢
    have e4 : T + 40 * (m + 1) = T + 40 + 40 * m := by omega
    by_cases c : rc = 0
    · rw [if_pos c]
      obtain ⟨t1, t2⟩ := tried B _ h' hc'
      exact ⟨t1.le (by omega) (Nat.le_refl _), t2, fun z => z⟩
    · rw [if_neg c, e4]
      by_cases c7 : aLn A l 7 = 0
      · rw [if_pos c7]
        exact ih h' (by omega) hc'
      · rw [if_neg c7]
        cases hd : (kf_done B f).1 with
        | none =>
          rw [done_same hd]
          exact ih h' (by omega) hc'
        | some d =>
          obtain ⟨t1, t2⟩ := tried B _ h' hc'
          rw [hd] at t2
          obtain ⟨e1, e2⟩ := isd_some (f := f) (l := l) (d := d) (m := m) (fa := fb) (A := (kf_done B f).2)
          refine ⟨ownI m fb d _ _ _ t1 (by omega), ?_, fun _ => ?_⟩
          · rw [e1, e2.2.2.1, e2.2.2.2.2.1]
            exact t2
          · rw [e1]; rfl
