/-! SQ 2: the component's state against the reference's, field by field; places, cells that are kept -/
set_option maxRecDepth 100000
def rRow (mk ce : Nat → Int32) (p : Nat) (r : qkRow) : Prop := mk p = r.1 ∧ ∀ c, c < 4 → ce (4 * p + c) = r.2 c
def rRows (mk ce : Nat → Int32) (o : Nat) (rows : List qkRow) : Prop := ∀ k r, rows[k]? = some r → rRow mk ce (o + k) r
def kf_lw (ws : List Int32) : Int32 := ws.getLast?.getD 0
def kf_fb (f : Nat → Int32) : Int32 := nI ((f 0).toNatClampNeg + 2 * (f 1).toNatClampNeg + 4 * (f 2).toNatClampNeg)
/-- the time, losses, the moment, the shape -/
def cT (A : qkA) (S : qm_S) : Prop := S.1 6 = aQ A 13 ∧ S.1 7 = aQ A 14 ∧ S.1 8 = aQ A 15 ∧ S.1 37 = aQ A 10 ∧ S.1 38 = aQ A 11
/-- the lines -/
def cL (A : qkA) (S : qm_S) : Prop := ∀ l, l < 3 → S.2 9 l = aLn A l 1 ∧ S.2 10 l = aLn A l 2 ∧ S.2 11 l = aLn A l 3 ∧ S.2 12 l = aLn A l 4 ∧ S.2 13 l = aLn A l 5 ∧ S.2 14 l = aLn A l 6 ∧ S.2 15 l = aLn A l 7 ∧ S.2 16 l = aLn A l 8 ∧ S.2 17 l = aLn A l 9 ∧ S.2 18 l = kf_fee l ∧ S.2 19 l = kf_freight l
/-- the rows of the sources -/
def cR (A : qkA) (S : qm_S) : Prop := ∀ s, s < 6 → S.2 1 s = nI (aRow A s).length ∧ rRows (S.2 2) (S.2 3) (12 * s) (aRow A s)
/-- the sources besides -/
def cS (A : qkA) (S : qm_S) : Prop := ∀ s, s < 6 → (s < 2 → S.2 4 s = aSr A s 4) ∧ S.2 5 s = kf_lw (aWr A s) ∧ S.2 20 s = kf_fb (aFb A s) ∧ S.2 21 s = aSr A s 5
/-- the draft -/
def cD (A : qkA) (S : qm_S) : Prop := (S.1 22 = nI (aSeat A).length ∧ ∀ (k : Nat) (v : Int32), (aSeat A)[k]? = some v → S.2 23 k = v) ∧ (S.1 24 = nI (aLink A).length ∧ ∀ (k : Nat) (l : qkC), (aLink A)[k]? = some l → S.2 25 k = l.1 ∧ S.2 26 k = l.2.1 ∧ S.2 27 k = l.2.2.1 ∧ S.2 28 k = l.2.2.2) ∧ (S.1 29 = nI (aCond A).length ∧ ∀ (k : Nat) (c : qkC), (aCond A)[k]? = some c → S.2 30 k = c.1 ∧ S.2 31 k = c.2.1 ∧ S.2 32 k = c.2.2.1 ∧ S.2 33 k = c.2.2.2) ∧ (S.1 34 = nI (aOut A).length ∧ ∀ (k : Nat) (o : qkOut), (aOut A)[k]? = some o → S.2 35 k = o.1 ∧ S.2 36 k = o.2)
/-- when the messages drop an entry; -1 for never -/
def kf_dr (ms : List qkMsg) (E : qkEnt) : Int32 := (ms.filter (fun m => kf_gone m E)).foldl (fun a m => if a = -1 then m.2.1 else if a ≤ m.2.1 then a else m.2.1) (-1)
def rEnt (W : Nat → List Int32) (ms : List qkMsg) (S : qm_S) (e : Nat) (E : qkEnt) : Prop := S.2 40 e = nI E.1 ∧ S.2 41 e = E.2.2.2.1 ∧ S.2 42 e = kf_since (W E.1) E.2.2.2.2 ∧ S.2 43 e = kf_until (W E.1) E.2.2.2.2 (-1) ∧ S.2 44 e = kf_dr ms E ∧ S.2 45 e = nI E.2.2.1.length ∧ rRows (S.2 46) (S.2 47) (12 * e) E.2.2.1 ∧ S.2 48 e = nI E.2.1.length ∧ ∀ (j : Nat) (c : qkC), E.2.1[j]? = some c → S.2 49 (4 * e + j) = c.2.1 ∧ S.2 50 (4 * e + j) = c.2.2.1 ∧ S.2 51 (4 * e + j) = c.2.2.2
/-- the cache -/
def cE (A : qkA) (S : qm_S) : Prop := S.1 39 = nI (aCache A).length ∧ ∀ (e : Nat) (E : qkEnt), (aCache A)[e]? = some E → rEnt (aWr A) (aMsg A) S e E
/-- the bundle -/
def cB (A : qkA) (S : qm_S) : Prop := S.1 85 = nI (aBun A).length ∧ ∀ (k : Nat) (f : Nat → Int32), (aBun A)[k]? = some f → S.2 86 k = f 0 ∧ S.2 87 k = f 1 ∧ S.2 88 k = f 2 ∧ S.2 89 k = f 3 ∧ S.2 90 k = f 4 ∧ S.2 91 k = f 5
/-- the latest answer -/
def cA (v : qkAns) (S : qm_S) : Prop := S.1 75 = nI v.1.length ∧ v.1.length ≤ 40 ∧ (∀ (k : Nat) (r : qkV), v.1[k]? = some r → S.1 76 = nI r.1 ∧ r.1 ≤ 3 ∧ ∀ c, c < r.1 → S.2 77 (3 * k + c) = r.2 c) ∧ S.1 78 = v.2.1 2 ∧ S.1 79 = v.2.1 3 ∧ S.1 80 = v.2.1 4 ∧ S.1 81 = v.2.1 5 ∧ S.1 82 = v.2.1 6 ∧ S.1 83 = nI v.2.2.length ∧ v.2.2.length ≤ 3 ∧ ∀ (k : Nat) (x : Int32), v.2.2[k]? = some x → S.2 84 k = x
def cC (A : qkA) (v : qkAns) (S : qm_S) : Prop := cT A S ∧ cL A S ∧ cR A S ∧ cS A S ∧ cD A S ∧ cE A S ∧ cB A S ∧ cA v S
/-! what holds of the component's state all along -/
/-- rows: by rising marks -/
def qkAsc (rows : List qkRow) : Prop := rows.Pairwise (fun a b => a.1 < b.1)
/-- a condition of the draft -/
def qkCw (n : Nat) (c : qkC) : Prop := (∃ a, a < n ∧ c.1 = nI a) ∧ (∃ j, j < 4 ∧ c.2.1 = nI j) ∧ (∃ k, k < 5 ∧ c.2.2.1 = nI k) ∧ (c.2.2.1 = 0 → kf_num c.2.2.2 = true)
/-- rows and marks of the sources -/
def iR (A : qkA) : Prop := ∀ s, s < 6 → qkRs (aRow A s) ∧ qkAsc (aRow A s) ∧ (s < 2 → ∃ n, n ≤ 60 ∧ aSr A s 4 = nI n ∧ ∀ r ∈ aRow A s, ∃ m, m < n ∧ r.1 = nI m) ∧ ∃ z, z ≤ 12 ∧ aSr A s 5 = nI z
/-- the lines -/
def iL (A : qkA) : Prop := ∀ l, l < 3 → (∃ d, d ≤ 30 ∧ aLn A l 1 = nI d) ∧ (∃ d, d ≤ 60 ∧ aLn A l 2 = nI d) ∧ (∃ d, d ≤ 12 ∧ aLn A l 4 = nI d) ∧ (aLn A l 7 = 0 ∨ aLn A l 7 = 1)
/-- forbidden -/
def iF (A : qkA) : Prop := ∀ s, s < 6 → ∀ t, t < 3 → aFb A s t = 0 ∨ aFb A s t = 1
/-- the draft -/
def iD (A : qkA) : Prop := ((aSeat A).length ≤ 3 ∧ ∀ (k : Nat) (v : Int32), (aSeat A)[k]? = some v → ∃ s, s < 6 ∧ v = nI s) ∧ ((aLink A).length ≤ 3 ∧ ∀ l ∈ aLink A, (∃ a b, a < b ∧ b < (aSeat A).length ∧ l.1 = nI a ∧ l.2.2.1 = nI b) ∧ (∃ q, q < 4 ∧ l.2.1 = nI q) ∧ (∃ q, q < 4 ∧ l.2.2.2 = nI q)) ∧ ((aCond A).length ≤ 4 ∧ ∀ c ∈ aCond A, qkCw (aSeat A).length c) ∧ ((aOut A).length ≤ 3 ∧ ∀ o ∈ aOut A, qkOo (aSeat A).length o) ∧ (∃ n, 1 ≤ n ∧ n ≤ 40 ∧ aQ A 10 = nI n) ∧ (aQ A 11 = 0 ∨ aQ A 11 = 1)
/-- the bundle -/
def iB (A : qkA) : Prop := (aBun A).length ≤ 4 ∧ ∀ f ∈ aBun A, (∃ s, s < 6 ∧ f 1 = nI s) ∧ ∃ k, k < 3 ∧ f 0 = nI k
/-- time and moment, within bounds -/
def iT (T M : Nat) (A : qkA) : Prop := (∃ t, t ≤ T ∧ aQ A 15 = nI t) ∧ ∃ m, m ≤ M ∧ aQ A 14 = nI m ∧ (∀ s, s < 6 → (aWr A s).Pairwise (fun a b => a < b) ∧ ∀ w ∈ aWr A s, ∃ j, 1 ≤ j ∧ j ≤ m ∧ w = nI j) ∧ (∀ x ∈ aMsg A, (∃ d, d ≤ T + 60 ∧ x.2.1 = nI d)) ∧ (∀ E ∈ aCache A, ∃ j, j ≤ m ∧ E.2.2.2.2 = nI j) ∧ ∀ x ∈ aMsg A, ∃ j, j ≤ m ∧ x.2.2 = nI j
/-- the cache -/
def iE (A : qkA) : Prop := (aCache A).length ≤ 6 ∧ ∀ E ∈ aCache A, E.1 < 6 ∧ E.2.1.length ≤ 4 ∧ qkRs E.2.2.1
/-! places -/
theorem at_some {rows : List qkRow} {m : Int32} {k : Nat} (h : kf_at rows m = some k) : ∃ hk : k < rows.length, rows[k].1 = m := by
  unfold kf_at at h
  rw [List.findIdx?_eq_some_iff_getElem] at h
  obtain ⟨hk, h1, _⟩ := h
  exact ⟨hk, by simpa using h1⟩
theorem at_none {rows : List qkRow} {m : Int32} : kf_at rows m = none ↔ ∀ r ∈ rows, ¬ r.1 = m := by
  unfold kf_at
  rw [List.findIdx?_eq_none_iff]
  simp
theorem pl_snoc_n {l : List qkRow} {r : qkRow} {m : Int32} (h : ¬ r.1 = m) : kf_pl (l ++ [r]) m = kf_pl l m := by
  unfold kf_pl kf_at
  rw [List.findIdx?_append]
  have : List.findIdx? (fun r => decide (r.1 = m)) [r] = none := by
    rw [List.findIdx?_eq_none_iff]
    intro x hx
    rw [List.mem_singleton] at hx
    subst hx
    simpa using h
  rw [this]
  simp
theorem pl_snoc_s {l : List qkRow} {r : qkRow} {m : Int32} (h : r.1 = m) (hn : ∀ q ∈ l, ¬ q.1 = m) : kf_pl (l ++ [r]) m = nI l.length := by
  have h1 : kf_at (l ++ [r]) m = some l.length := by
    unfold kf_at
    rw [List.findIdx?_eq_some_iff_getElem]
    refine ⟨by simp, by simp [h], fun j hj => ?_⟩
    have : (l ++ [r])[j]'(by simp; omega) = l[j] := List.getElem_append_left hj
    rw [this]
    simpa using hn _ (List.getElem_mem hj)
  unfold kf_pl
  rw [h1]
theorem take_s {α : Type} {l : List α} {n : Nat} (h : n < l.length) : l.take (n + 1) = l.take n ++ [l[n]] := by
  rw [List.take_append_getElem]
theorem asc_before {rows : List qkRow} (h : qkAsc rows) {n : Nat} (hn : n < rows.length) : ∀ q ∈ rows.take n, q.1 < rows[n].1 := by
  intro q hq
  obtain ⟨j, hj, e⟩ := List.getElem_of_mem hq
  rw [List.length_take] at hj
  rw [List.getElem_take] at e
  have := (List.pairwise_iff_getElem.mp h) j n (by omega) hn (by omega)
  rw [e] at this
  exact this
theorem lt_ne {a b : Int32} (h : a < b) : ¬ a = b := fun e => absurd h (by rw [e]; exact Int32.lt_irrefl)
theorem km_placeOf {S : qm_S} {s : Nat} {rows : List qkRow} {m : Int32} {K : Int32 → Prop} (hs : s < 6) (hn : S.2 1 s = nI rows.length) (hl : rows.length ≤ 12) (hR : rRows (S.2 2) (S.2 3) (12 * s) rows) (hu : qkAsc rows) (hk : K (kf_pl rows m)) : T_X8_placeOf (nI s) m S K := by
  unfold T_X8_placeOf
  intro X hX
  refine lp (P := fun n (x : Int32) => X x (nI n)) rows.length (fun n x => x = kf_pl (rows.take n) m) (fun n x hn' hI ih => ?_) 0 (-1) (Nat.zero_le _) rfl
  refine hX _ _ ?_
  rw [nI_clamp (n := s) (by omega), hn]
  refine ⟨pk_in s 6 hs, pk_le rows.length n (fun z => ?_) (fun z => ?_)⟩
  · obtain rfl : n = rows.length := by omega
    rw [hI, List.take_length]
    exact hk
  · have h2 := (hR n _ (List.getElem?_eq_getElem z)).1
    rw [m_12, nI_add, nI_clamp (n := 12 * s + n) (by omega), h2, nI_1]
    refine ⟨pk_in (12 * s + n) 72 (by omega), fun q => ih z _ ?_, fun q => ih z _ ?_⟩
    · rw [hI, take_s z, pl_snoc_n q]
    · rw [take_s z, pl_snoc_s q, List.length_take, Nat.min_eq_left (by omega)]
      intro r hr e
      exact lt_ne (asc_before hu z r hr) (e.trans q.symm)
theorem pl_none {rows : List qkRow} {m : Int32} (hl : rows.length ≤ 12) : kf_pl rows m = -1 ↔ kf_at rows m = none := by
  unfold kf_pl
  cases h : kf_at rows m with
  | none => simp
  | some k =>
    obtain ⟨hk, _⟩ := at_some h
    simp only [reduceCtorEq, iff_false]
    exact nI_nm1 (by omega)
theorem pl_some {rows : List qkRow} {m : Int32} {k : Nat} (h : kf_at rows m = some k) : kf_pl rows m = nI k := by
  unfold kf_pl
  rw [h]
/-! cells that are kept -/
theorem kept_z {t : Nat} {c v : Int32} (h : t ≠ 1 ∨ c = 0) : kf_kept t c v = v := by
  unfold kf_kept
  rw [if_neg]
  rintro ⟨h1, h2, _⟩
  rcases h with h | h
  · exact h h1
  · exact h2 h
theorem km_kept {s c : Nat} {v : Int32} {S : qm_S} {K : Int32 → qm_S → Prop} (hs : s < 6) (hc : c < 2 ∨ s / 2 ≠ 1) (hf : kf_fit (s / 2) (nI c) v = true) (hk : ∀ S' : qm_S, S'.2 = S.2 → (∀ k, k ≠ 6 → S'.1 k = S.1 k) → S'.1 6 = S.1 6 + (if kf_kept (s / 2) (nI c) v = v then 0 else 1) → K (kf_kept (s / 2) (nI c) v) S') : T_X8_kept (nI s) (nI c) v S K := by
  unfold T_X8_kept
  rw [fm_half hs, fm_num]
  have e1 : (nI (s / 2) = 1) ↔ s / 2 = 1 := nI_eq (b := 1) (by omega) (by decide)
  have same : kf_kept (s / 2) (nI c) v = v → K v S := fun e => by
    have := hk S rfl (fun _ _ => rfl) (by rw [if_pos e, Int32.add_zero])
    rw [e] at this
    exact this
  rw [e1]
  refine ⟨fun z => same (kept_z (Or.inl z)), fun z => ?_⟩
  have hc2 : c < 2 := by
    rcases hc with h | h
    · exact h
    · exact absurd z h
  have hc10 : c = 0 ∨ c = 1 := by omega
  refine ⟨fun q => same (kept_z (Or.inr ?_)), fun q => ?_⟩
  · rcases hc10 with h | h
    · rw [h]; rfl
    · rw [h] at q; exact absurd rfl q
  · have hc1 : c = 1 := by
      rcases hc10 with h | h
      · rw [h] at q; exact absurd q (by decide)
      · exact h
    subst hc1
    rw [z] at hf hk same
    have n10 : ¬ nI 1 = (0 : Int32) := by decide
    have hv : kf_num v = true ∨ v = 5000 := by
      unfold kf_fit at hf
      simp only [if_neg (show ¬ (1 = 0) by omega), if_true, if_neg n10] at hf
      rw [if_pos (show nI 1 = (1 : Int32) from rfl)] at hf
      simpa using hf
    refine bn (fun b => ?_) (fun b => same ?_)
    · have h5 : ¬ v = 5000 := by
        intro e
        subst e
        exact absurd b (by decide)
      have hkk : kf_kept 1 (nI 1) v = (if 0 ≤ v then if v ≤ 99 then v else (99 : Int32) else (0 : Int32)) := by
        unfold kf_kept
        rw [if_pos ⟨rfl, n10, h5⟩]
        by_cases a1 : v < 99
        · rw [if_pos a1, if_pos (Int32.le_of_lt a1)]
          by_cases a2 : 0 < v
          · rw [if_pos a2, if_pos (Int32.le_of_lt a2)]
          · rw [if_neg a2]
            by_cases a3 : 0 ≤ v
            · rw [if_pos a3]
              exact Int32.le_antisymm a3 (Int32.not_lt.mp a2)
            · rw [if_neg a3]
        · rw [if_neg a1, if_pos (by decide), if_pos (Int32.le_trans (by decide) (Int32.not_lt.mp a1))]
          by_cases a2 : v ≤ 99
          · rw [if_pos a2]
            exact Int32.le_antisymm (Int32.not_lt.mp a1) a2
          · rw [if_neg a2]
      rw [hkk] at hk
      exact hk (upd S.1 6 _, S.2) rfl (fun k h => upd_n h) (show upd S.1 6 _ 6 = _ from upd_s)
    · rcases hv with h | h
      · rw [b] at h; cases h
      · unfold kf_kept
        rw [if_neg]
        rintro ⟨_, _, h'⟩
        exact h' h
