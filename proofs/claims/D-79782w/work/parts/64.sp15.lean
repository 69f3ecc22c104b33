/-! SP 15: a seat is taken -/
set_option maxRecDepth 100000
/-- the other seat of a link -/
def kf_oth (l : qkC) (num : Int32) : Nat := (if l.1 = num then l.2.2.1 else l.1).toNatClampNeg
/-- a seat's rows before its conditions are looked at: the state, the answer's and the seat's scalars, the rows -/
def kf_pre (A : qkA) (n : Nat) (ss : Nat → qkSeat) (i : Nat) (fresh b d : Int32) (f : Nat → Int32) : qkA × (Nat → Int32) × (Nat → Int32) × List qkRow :=
  match kf_entry A (ss i).1 (ss i).2.2.1 fresh with
  | some e => match (aCache A)[e]? with
    | some E => (A, f, upd (upd (upd (ss i).2.2.2.2 7 3) 7 0) 8 E.2.2.2.2, E.2.2.1)
    | none => (A, f, (ss i).2.2.2.2, [])
  | none => match kf_linkOf A n ss ((ss i).2.2.2.2 0) with
    | none => kf_scan A (ss i).1 (ss i).2.2.1 (upd (ss i).2.2.2.2 7 3) f b d
    | some k => match (aLink A)[k]? with
      | none => (A, f, (ss i).2.2.2.2, [])
      | some l =>
        if (kf_bind A (ss i).1 (ss (kf_oth l ((ss i).2.2.2.2 0))).1 (ss i).2.2.1 (upd (ss i).2.2.2.2 7 3) (ss (kf_oth l ((ss i).2.2.2.2 0))).2.2.2.2 (ss (kf_oth l ((ss i).2.2.2.2 0))).2.2.2.1 l b d f).1 = 0 then
          kf_scan (kf_bind A (ss i).1 (ss (kf_oth l ((ss i).2.2.2.2 0))).1 (ss i).2.2.1 (upd (ss i).2.2.2.2 7 3) (ss (kf_oth l ((ss i).2.2.2.2 0))).2.2.2.2 (ss (kf_oth l ((ss i).2.2.2.2 0))).2.2.2.1 l b d f).2.1 (ss i).1 (ss i).2.2.1 (kf_bind A (ss i).1 (ss (kf_oth l ((ss i).2.2.2.2 0))).1 (ss i).2.2.1 (upd (ss i).2.2.2.2 7 3) (ss (kf_oth l ((ss i).2.2.2.2 0))).2.2.2.2 (ss (kf_oth l ((ss i).2.2.2.2 0))).2.2.2.1 l b d f).2.2.2.1 (kf_bind A (ss i).1 (ss (kf_oth l ((ss i).2.2.2.2 0))).1 (ss i).2.2.1 (upd (ss i).2.2.2.2 7 3) (ss (kf_oth l ((ss i).2.2.2.2 0))).2.2.2.2 (ss (kf_oth l ((ss i).2.2.2.2 0))).2.2.2.1 l b d f).2.2.1 b d
        else (kf_bind A (ss i).1 (ss (kf_oth l ((ss i).2.2.2.2 0))).1 (ss i).2.2.1 (upd (ss i).2.2.2.2 7 3) (ss (kf_oth l ((ss i).2.2.2.2 0))).2.2.2.2 (ss (kf_oth l ((ss i).2.2.2.2 0))).2.2.2.1 l b d f).2
theorem kf_last_lt {α : Type} {p : α → Bool} {l : List α} : ∀ {k i : Nat}, kf_last p l k = some i → i < k ∧ ∃ e, l[i]? = some e ∧ p e = true
  | 0, i, h => by cases h
  | k + 1, i, h => by
    rw [kf_last] at h
    split at h
    · rename_i q
      cases h
      cases hl : l[k]? with
      | none => rw [hl] at q; cases q
      | some e => rw [hl] at q; exact ⟨Nat.lt_succ_self _, e, rfl, by simpa using q⟩
    · obtain ⟨h1, h2⟩ := kf_last_lt h
      exact ⟨Nat.lt_succ_of_lt h1, h2⟩
def kf_take (A : qkA) (n : Nat) (ss : Nat → qkSeat) (i : Nat) (fresh b d : Int32) (f : Nat → Int32) : qkA × (Nat → Int32) × qkSeat :=
  ((kf_pre A n ss i fresh b d f).1, (kf_pre A n ss i fresh b d f).2.1, ((ss i).1, (ss i).2.1, (ss i).2.2.1, (kf_pre A n ss i fresh b d f).2.2.2.filter (fun r => kf_all (ss i).2.1 r), upd (kf_pre A n ss i fresh b d f).2.2.1 5 1))
theorem kf_bl_01 {src : Nat} {sent : List qkC} {ks : List Int32} {col b d most : Int32} : ∀ {n k : Nat} {A : qkA} {f sv : Nat → Int32} {rows : List qkRow}, (kf_bl src sent ks col b d most n k A f sv rows).1 = 0 ∨ (kf_bl src sent ks col b d most n k A f sv rows).1 = 1
  | 0, _, _, _, _, _ => Or.inr rfl
  | n + 1, k, A, f, sv, rows => by
    rw [kf_bl]
    split
    · split
      · exact kf_bl_01
      · exact Or.inl rfl
    · exact Or.inr rfl
theorem kf_bind_01 {A : qkA} {src osrc : Nat} {sent : List qkC} {sv osv : Nat → Int32} {orows : List qkRow} {l : qkC} {b d : Int32} {f : Nat → Int32} : (kf_bind A src osrc sent sv osv orows l b d f).1 = 0 ∨ (kf_bind A src osrc sent sv osv orows l b d f).1 = 1 := by
  unfold kf_bind
  split
  · exact Or.inl rfl
  · split
    · exact Or.inl rfl
    · split
      · exact Or.inl rfl
      · exact kf_bl_01
section
variable {g : qh_G} {L : Nat → Nat} {J h : qc_H} {A : qkA} {c : Nat}
theorem kt_take {al n i an arl atl : Nat} {sa rl : Nat → Nat} {ss : Nat → qkSeat} {fresh b d : Int32} {f : Nat → Int32} {K : qc_H → Prop} (R : qkRep g L J h A) (S : qkSs g L J h al n sa rl ss) (hi : i < n) (hla : aLa A = an) (han : h an = some (qkAn arl atl f)) (haF : qkF L an)
    (hnum : ∀ j, j < n → (ss j).2.2.2.2 0 = nI j) (hnt : kf_taken ss i = false) (hrl : h (rl i) = some (.inr [])) (hrF : qkF L (rl i)) (hrJ : J (rl i) = none) (hrF2 : ∀ j, j < n → qkF L (rl j)) (hr12 : ∀ j, j < n → (ss j).2.2.2.1.length ≤ 12) (hok : ∀ cd ∈ (ss i).2.1, qkOk cd) (hok2 : ∀ cd ∈ (ss i).2.2.1, qkOk cd)
    (hnr : (aRow A (ss i).1).length ≤ 12) (hcap : ∃ m, m ≤ 12 ∧ aLn A ((ss i).1 / 2) 4 = nI m) (hcache : (aCache A).length ≤ 6) (hlk : ∀ l ∈ aLink A, (∃ q, q < 4 ∧ l.2.1 = nI q) ∧ (∃ q, q < 4 ∧ l.2.2.2 = nI q)) (hpre : (kf_pre A n ss i fresh b d f).2.2.2.length ≤ 12) (hc : 3650 ≤ c)
    (hk : ∀ J' h' w, qkJw h J J' → qkRep g L J' h' (kf_take A n ss i fresh b d f).1 → h' an = some (qkAn arl atl (kf_take A n ss i fresh b d f).2.1) → qkS1 g L J' h' (sa i) w (kf_take A n ss i fresh b d f).2.2 → h w = none → qkF L w → J' w = none → qkFx L (fun a => a = an ∨ a = sa i ∨ a = rl i) h h' → K h') : T_X1_take g (L 0) (sa i) al fresh b d h c K := by
  unfold T_X1_take
  have S0 := S
  obtain ⟨hn3, ⟨F, hF, hF2⟩, hs, hinj⟩ := S
  obtain ⟨ol, sl, s1, s2, s3, s4, s5, s6⟩ := hs i hi
  generalize hse : sa i = se at s1 s6 hk ⊢
  have hane : an ≠ se := by
    intro z
    rw [z, s1] at han
    cases han
  have hanr : an ≠ rl i := by
    intro z
    rw [z, hrl] at han
    cases han
  have hser : se ≠ rl i := by
    intro z
    rw [z, hrl] at s1
    cases s1
  have hal : se ≠ al := by
    intro z
    rw [z, hF] at s1
    cases s1
  refine ⟨⟨_, R.x⟩, kt_entryFor R s1 s2 s4 fun r1 e1 e2 => ⟨⟨_, R.x⟩, by
    rw [← hse]
    refine kt_linkOf R S0 hi fun r2 l1 l2 => ?_
    rw [hse]
    refine ⟨_, s1, by simp, ?_⟩
    rw [show qc_up h se (Sum.inl (Sum.inr (13, [Value.int ((ss i).2.2.2.2 0), Value.ref (L (16 + (ss i).1)), Value.ref ol, Value.ref sl, Value.ref (rl i), Value.int ((ss i).2.2.2.2 5), Value.int ((ss i).2.2.2.2 6), Value.int ((ss i).2.2.2.2 7), Value.int ((ss i).2.2.2.2 8), Value.int ((ss i).2.2.2.2 9), Value.ref (L 0)].set 7 (Value.int 3)))) = qc_up h se (qkSt L (ss i).1 ol sl (rl i) (upd (ss i).2.2.2.2 7 3)) from rfl]
    have R3 := R.other (e := qkSt L (ss i).1 ol sl (rl i) (upd (ss i).2.2.2.2 7 3)) s6 (R.mu s1 (Or.inr rfl))
    have ha3 : (qc_up h se (qkSt L (ss i).1 ol sl (rl i) (upd (ss i).2.2.2.2 7 3))) an = some (qkAn arl atl f) := by rw [qc_up_n hane]; exact han
    have hs3 : (qc_up h se (qkSt L (ss i).1 ol sl (rl i) (upd (ss i).2.2.2.2 7 3))) se = some (qkSt L (ss i).1 ol sl (rl i) (upd (ss i).2.2.2.2 7 3)) := qc_up_s
    have hr3 : (qc_up h se (qkSt L (ss i).1 ol sl (rl i) (upd (ss i).2.2.2.2 7 3))) (rl i) = some (.inr []) := by rw [qc_up_n hser.symm]; exact hrl
    have F3 : qkFx L (fun a => a = an ∨ a = se ∨ a = rl i) h (qc_up h se (qkSt L (ss i).1 ol sl (rl i) (upd (ss i).2.2.2.2 7 3))) := qkFx.up (Or.inr (Or.inl rfl))
    have hup3 : ∀ a, a ≠ se → (qc_up h se (qkSt L (ss i).1 ol sl (rl i) (upd (ss i).2.2.2.2 7 3))) a = h a := fun a ha => qc_up_n ha
    generalize qc_up h se (qkSt L (ss i).1 ol sl (rl i) (upd (ss i).2.2.2.2 7 3)) = h3 at R3 ha3 hs3 hr3 F3 hup3 ⊢
    intro J33 hJ33
    have hd3 : ∀ a, h3 a = none → h a = none := by
      intro a hz
      by_cases e : a = se
      · rw [e, hs3] at hz
        cases hz
      · rw [← hup3 a e]
        exact hz
    -- the end: taken, filtered
    have fin : ∀ J4 h4 rl4 A4 f4 sv4 rows4 c4, 360 ≤ c4 → kf_pre A n ss i fresh b d f = (A4, f4, sv4, rows4) → qkJw h J J4 → qkRep g L J4 h4 A4 → h4 an = some (qkAn arl atl f4) → h4 se = some (qkSt L (ss i).1 ol sl rl4 sv4) → qkR (isRow g J4) h4 rl4 rows4 → qkFx L (fun a => a = an ∨ a = se ∨ a = rl i) h h4 → h4 (rl i) ≠ none → J33 h4 c4 := by
      intro J4 h4 rl4 A4 f4 sv4 rows4 c4 hc4 hp k4 R4 ha4 hs4 hr4 F4 hrk
      rw [hp] at hpre
      unfold kf_take at hk
      rw [hp] at hk
      dsimp only at hpre hk
      refine hJ33 h4 c4 ⟨_, hs4, by simp, ?_⟩
      rw [show qc_up h4 se (Sum.inl (Sum.inr (13, [Value.int (sv4 0), Value.ref (L (16 + (ss i).1)), Value.ref ol, Value.ref sl, Value.ref rl4, Value.int (sv4 5), Value.int (sv4 6), Value.int (sv4 7), Value.int (sv4 8), Value.int (sv4 9), Value.ref (L 0)].set 5 (Value.int 1)))) = qc_up h4 se (qkSt L (ss i).1 ol sl rl4 (upd sv4 5 1)) from rfl]
      have R5 := R4.other (e := qkSt L (ss i).1 ol sl rl4 (upd sv4 5 1)) s6 (R4.mu hs4 (Or.inr rfl))
      have hs5 : (qc_up h4 se (qkSt L (ss i).1 ol sl rl4 (upd sv4 5 1))) se = some (qkSt L (ss i).1 ol sl rl4 (upd sv4 5 1)) := qc_up_s
      have ha5 : (qc_up h4 se (qkSt L (ss i).1 ol sl rl4 (upd sv4 5 1))) an = some (qkAn arl atl f4) := by rw [qc_up_n hane]; exact ha4
      have hser4 : rl4 ≠ se := by
        obtain ⟨xs, x1, -⟩ := hr4
        intro z
        rw [z, hs4] at x1
        cases x1
      have hr5 : qkR (isRow g J4) (qc_up h4 se (qkSt L (ss i).1 ol sl rl4 (upd sv4 5 1))) rl4 rows4 := hr4.mono (fun e q => by rw [qc_up_n hser4]; exact q) (fun _ _ q => q)
      have F5 : qkFx L (fun a => a = an ∨ a = se ∨ a = rl i) h (qc_up h4 se (qkSt L (ss i).1 ol sl rl4 (upd sv4 5 1))) := F4.tr (qkFx.up (Or.inr (Or.inl rfl)))
      have hup5 : ∀ a, (qc_up h4 se (qkSt L (ss i).1 ol sl rl4 (upd sv4 5 1))) a = none → h a = none := by
        intro a hz
        by_cases q1 : a = se
        · rw [q1, hs5] at hz
          cases hz
        · rw [qc_up_n q1] at hz
          by_cases q2 : a = an
          · rw [q2, ha4] at hz
            cases hz
          · cases hh : h a with
            | none => rfl
            | some e =>
              exfalso
              by_cases qF : qkF L a
              · by_cases q3 : a = rl i
                · -- the seat's first list is there still
                  have hne : h a ≠ none := by rw [hh]; intro z; cases z
                  rw [q3] at hz
                  exact hrk hz
                · have := F4 a qF (by rintro (z | z | z); exact q2 z; exact q1 z; exact q3 z) (by rw [hh]; intro z; cases z)
                  rw [this, hh] at hz
                  cases hz
              · simp only [qkF, Classical.not_forall] at qF
                obtain ⟨nn, hnn, hne⟩ := qF
                rw [Classical.not_not.mp hne] at hz
                exact R4.cell nn hnn hz
      generalize qc_up h4 se (qkSt L (ss i).1 ol sl rl4 (upd sv4 5 1)) = h5 at R5 hs5 ha5 hr5 F5 hup5 ⊢
      refine ⟨⟨_, hs5⟩, ek 360 (by omega) (kt_filter R5 hs5 s6 (R5.mu hs5 (Or.inr rfl)) (s3.mono (fun e q => k4.1 _ _ q) (isCond.mono k4.1)) hok hr5 hpre (Nat.le_refl _) fun h6 w R6 hw hwF hwJ hs6 hw6 F6 => ?_)⟩
      refine hk J4 h6 w k4 R6 (F6.at haF hane ha5) ⟨ol, sl, hs6, s2, s3.mono (fun e q => k4.1 _ _ q) (isCond.mono k4.1), s4.mono (fun e q => k4.1 _ _ q) (isCond.mono k4.1), hw6, s6⟩ (hup5 w hw) hwF hwJ (F5.tr (F6.le (fun a z _ => Or.inr (Or.inl z))))
    have hsc : ∀ J4 h4 A4 sv4 f4 c4, 420 + 360 ≤ c4 → qkJw h J J4 → qkTm A A4 → qkRep g L J4 h4 A4 → h4 an = some (qkAn arl atl f4) → h4 se = some (qkSt L (ss i).1 ol sl (rl i) sv4) → h4 (rl i) ≠ none → qkFx L (fun a => a = an ∨ a = se ∨ a = rl i) h h4 → (∀ a, h4 a = none → h a = none) → kf_pre A n ss i fresh b d f = kf_scan A4 (ss i).1 (ss i).2.2.1 sv4 f4 b d → eC h4 (L 0) 0 (eK c4 (fun c9 k8 => T_X1_scan g (L 0) se b d h4 k8 (fun h10 => J33 h10 c9))) := by
      intro J4 h4 A4 sv4 f4 c4 hc4 k4 T4 R4 ha4 hs4 hrk F4 hd4 hp
      obtain ⟨T4a, T4b, T4c, T4d, T4e, T4f, T4g, T4h, T4i, T4j, T4k, T4l, T4m, T4n⟩ := T4
      refine ⟨⟨_, R4.x⟩, ek 420 (by omega) (kt_scan R4 (T4l.trans hla) ha4 haF s2 hs4 s6 (s4.mono (fun e q => k4.1 _ _ q) (isCond.mono k4.1)) hok2 (by rw [T4e]; exact hnr) (by obtain ⟨m, hm, e⟩ := hcap; exact ⟨m, hm, (T4b _ 4 (by decide) (by decide) (by decide)).trans e⟩) (Nat.le_trans T4m.length_le hcache) (Nat.le_refl _) fun J5 h5 rl5 k5 R5 ha5 hs5 hr5 hn5 F5 => ?_)⟩
      refine fin J5 h5 rl5 _ _ _ _ _ (by omega) hp (k4.tr k5 hd4) R5 ha5 hs5 hr5 (F4.tr (F5.le (fun a z _ => by rcases z with z | z; exact Or.inl z; exact Or.inr (Or.inl z)))) ?_
      rw [F5 (rl i) hrF (by rintro (z | z); exact hanr z.symm; exact hser z.symm) hrk]
      exact hrk
    refine ⟨fun z1 => ⟨fun z2 => ?_, fun y6 hy6 => ?_⟩, fun y4 hy4 => ?_⟩
    · -- neither an entry nor a link
      have hE : kf_entry A (ss i).1 (ss i).2.2.1 fresh = none := by
        cases hq : kf_entry A (ss i).1 (ss i).2.2.1 fresh with
        | none => rfl
        | some k =>
          obtain ⟨-, E, q1, -⟩ := kf_last_lt hq
          obtain ⟨p, q2, -⟩ := e2 k E hq q1
          rw [z1] at q2
          cases q2
      have hL : kf_linkOf A n ss ((ss i).2.2.2.2 0) = none := by
        cases hq : kf_linkOf A n ss ((ss i).2.2.2.2 0) with
        | none => rfl
        | some k =>
          have hkl : k < (aLink A).length := by
            unfold kf_linkOf at hq
            rw [List.findIdx?_eq_some_iff_getElem] at hq
            exact hq.1
          obtain ⟨p, q2, -⟩ := l2 k _ hq (List.getElem?_eq_getElem hkl)
          rw [z2] at q2
          cases q2
      exact hsc J h3 A (upd (ss i).2.2.2.2 7 3) f c (by omega) qkJw.rf qkTm.rf R3 ha3 hs3 (by rw [hr3]; intro z; cases z) F3 hd3 (by unfold kf_pre; simp only [hE, hL])
    · -- a link
      have hE : kf_entry A (ss i).1 (ss i).2.2.1 fresh = none := by
        cases hq : kf_entry A (ss i).1 (ss i).2.2.1 fresh with
        | none => rfl
        | some k =>
          obtain ⟨-, E, q1, -⟩ := kf_last_lt hq
          obtain ⟨p, q2, -⟩ := e2 k E hq q1
          rw [z1] at q2
          cases q2
      cases hL : kf_linkOf A n ss ((ss i).2.2.2.2 0) with
      | none =>
        rw [l1 hL] at hy6
        cases hy6
      | some k =>
        have hkl := hL
        unfold kf_linkOf at hkl
        rw [List.findIdx?_eq_some_iff_getElem] at hkl
        obtain ⟨hk1, hk2, -⟩ := hkl
        obtain ⟨p, q2, hlink⟩ := l2 k _ hL (List.getElem?_eq_getElem hk1)
        rw [hy6] at q2
        cases q2
        have hlg : (aLink A)[k]? = some (aLink A)[k] := List.getElem?_eq_getElem hk1
        have hlm : (aLink A)[k] ∈ aLink A := List.getElem_mem hk1
        generalize (aLink A)[k] = l at hk2 hlink hlg hlm
        have hlink1 : J y6 = some (.inl (.inr (10, [.int l.1, .int l.2.1, .int l.2.2.1, .int l.2.2.2]))) := hlink
        -- the other seat
        obtain ⟨j, hjn, hjt, hjv⟩ : ∃ j, j < n ∧ kf_taken ss j = true ∧ (if l.1 = (ss i).2.2.2.2 0 then l.2.2.1 else l.1) = nI j := by
          unfold kf_linked at hk2
          rw [List.any_eq_true] at hk2
          obtain ⟨j, hj, hj2⟩ := hk2
          have hjn := List.mem_range.mp hj
          rw [Bool.and_eq_true] at hj2
          obtain ⟨hjt, hjj⟩ := hj2
          refine ⟨j, hjn, hjt, ?_⟩
          unfold kf_joins at hjj
          rw [Bool.or_eq_true, decide_eq_true_eq, decide_eq_true_eq] at hjj
          have hij : ¬ (ss i).2.2.2.2 0 = (ss j).2.2.2.2 0 := by
            intro e
            rw [hnum i hi, hnum j hjn] at e
            have := (nI_eq (by omega) (by omega)).mp e
            rw [this, hjt] at hnt
            cases hnt
          rw [← hnum j hjn]
          rcases hjj with ⟨q1, q2⟩ | ⟨q1, q2⟩
          · rw [if_pos q1]
            exact q2
          · rw [if_neg (fun e => hij (by rw [← e]; exact q1))]
            exact q1
        have hji : j ≠ i := by
          intro e
          rw [e, hnt] at hjt
          cases hjt
        have hoth : kf_oth l ((ss i).2.2.2.2 0) = j := by unfold kf_oth; rw [hjv]; exact nI_clamp (by omega)
        obtain ⟨olj, slj, t1, t2, t3, t4, t5, t6⟩ := hs j hjn
        have hsj : sa j ≠ se := by
          intro e
          rw [← hse] at e
          exact hji (hinj j i hjn hi e)
        have hrjs : rl j ≠ se := by
          obtain ⟨xs, x1, -⟩ := t5
          intro e
          rw [e, s1] at x1
          cases x1
        have t1' : h3 (sa j) = some (qkSt L (ss j).1 olj slj (rl j) (ss j).2.2.2.2) := by rw [hup3 _ hsj]; exact t1
        have t5' : qkR (isRow g J) h3 (rl j) (ss j).2.2.2.1 := t5.mono (fun e q => by rw [hup3 _ hrjs]; exact q) (fun _ _ q => q)
        refine ⟨_, l.1, R3.jh _ _ hlink1, rfl, _, (ss i).2.2.2.2 0, hs3, rfl, fun J16 hJ16 => ?_⟩
        have main : J16 (nI j) := by
          refine hJ16 _ ⟨_, _, sa j, by rw [hup3 _ hal.symm]; exact hF, vp_in_nI hjn (by omega), by rw [nI_clamp (by omega)]; exact hF2 j hjn, ⟨_, R3.x⟩, ek 2850 (by omega) (kt_bind R3 hla ha3 haF s2 hs3 s6 s4 hok2 hr3 hrF hrJ hnr hcap t1' t2 t5' (hrF2 j hjn) (hr12 j hjn) hlink (hlk l hlm).1 (hlk l hlm).2 (Nat.le_refl _) fun J4 h4 k4 R4 ha4 hs4 hr4 hrJ4 T4 F4 => ?_)⟩
          have k4' : qkJw h J J4 := qkJw.rf.tr k4 hd3
          have hrk : h4 (rl i) ≠ none := by
            obtain ⟨xs, x1, -⟩ := hr4
            rw [x1]
            intro z
            cases z
          have F4' := F3.tr F4
          have hp : kf_pre A n ss i fresh b d f = (if (kf_bind A (ss i).1 (ss j).1 (ss i).2.2.1 (upd (ss i).2.2.2.2 7 3) (ss j).2.2.2.2 (ss j).2.2.2.1 l b d f).1 = 0 then kf_scan (kf_bind A (ss i).1 (ss j).1 (ss i).2.2.1 (upd (ss i).2.2.2.2 7 3) (ss j).2.2.2.2 (ss j).2.2.2.1 l b d f).2.1 (ss i).1 (ss i).2.2.1 (kf_bind A (ss i).1 (ss j).1 (ss i).2.2.1 (upd (ss i).2.2.2.2 7 3) (ss j).2.2.2.2 (ss j).2.2.2.1 l b d f).2.2.2.1 (kf_bind A (ss i).1 (ss j).1 (ss i).2.2.1 (upd (ss i).2.2.2.2 7 3) (ss j).2.2.2.2 (ss j).2.2.2.1 l b d f).2.2.1 b d else (kf_bind A (ss i).1 (ss j).1 (ss i).2.2.1 (upd (ss i).2.2.2.2 7 3) (ss j).2.2.2.2 (ss j).2.2.2.1 l b d f).2) := by
            unfold kf_pre
            simp only [hE, hL, hlg, hoth]
          have hbz : (upd (ss i).2.2.2.2 7 3) 0 = (ss i).2.2.2.2 0 := rfl
          have ho := kf_bind_01 (A := A) (src := (ss i).1) (osrc := (ss j).1) (sent := (ss i).2.2.1) (sv := upd (ss i).2.2.2.2 7 3) (osv := (ss j).2.2.2.2) (orows := (ss j).2.2.2.1) (l := l) (b := b) (d := d) (f := f)
          generalize kf_bind A (ss i).1 (ss j).1 (ss i).2.2.1 (upd (ss i).2.2.2.2 7 3) (ss j).2.2.2.2 (ss j).2.2.2.1 l b d f = br at R4 ha4 hs4 hr4 T4 hp ho ⊢
          obtain ⟨o, A4, f4, sv4, rows4⟩ := br
          dsimp only at R4 ha4 hs4 hr4 T4 hp ho ⊢
          have hd4 : ∀ a, h4 a = none → h a = none := by
            intro a hz
            cases hh : h a with
            | none => rfl
            | some e =>
              exfalso
              by_cases q1 : a = se
              · rw [q1, hs4] at hz
                cases hz
              · by_cases q2 : a = an
                · rw [q2, ha4] at hz
                  cases hz
                · by_cases q3 : a = rl i
                  · rw [q3] at hz
                    exact hrk hz
                  · by_cases qF : qkF L a
                    · have := F4' a qF (by rintro (z | z | z); exact q2 z; exact q1 z; exact q3 z) (by rw [hh]; intro z; cases z)
                      rw [this, hh] at hz
                      cases hz
                    · simp only [qkF, Classical.not_forall] at qF
                      obtain ⟨nn, hnn, hne⟩ := qF
                      rw [Classical.not_not.mp hne] at hz
                      exact R4.cell nn hnn hz
          refine ⟨fun q => fin J4 h4 (rl i) A4 f4 sv4 rows4 _ (by omega) ?_ k4' R4 ha4 hs4 hr4 F4' hrk, fun q => ?_⟩
          · rw [hp, if_neg (fun e => q (by rw [e]; rfl))]
          · have ho0 : o = 0 := by
              rcases ho with z | z
              · exact z
              · rw [z] at q
                exact absurd q (by decide)
            exact hsc J4 h4 A4 sv4 f4 _ (by omega) k4' T4 R4 ha4 hs4 hrk F4' hd4 (by rw [hp, if_pos ho0])
        refine ⟨fun q => ⟨_, l.1, R3.jh _ _ hlink1, rfl, ?_⟩, fun q => ⟨_, l.2.2.1, R3.jh _ _ hlink1, rfl, ?_⟩⟩
        · rw [if_neg q] at hjv
          rw [hjv]
          exact main
        · rw [if_pos q] at hjv
          rw [hjv]
          exact main
    · -- an entry
      cases hE : kf_entry A (ss i).1 (ss i).2.2.1 fresh with
      | none =>
        rw [e1 hE] at hy4
        cases hy4
      | some k =>
        obtain ⟨-, E, hE2, -⟩ := kf_last_lt hE
        obtain ⟨p, q2, hent⟩ := e2 k E hE hE2
        rw [hy4] at q2
        cases q2
        obtain ⟨ce, re, y0, y1, y2, y3⟩ := hent
        have y1' := R3.jh _ _ y1
        have hse4 : ∀ e : qc_E, qkRep g L J (qc_up h3 se e) A := fun e => R3.other s6 (R3.mu hs3 (Or.inr rfl))
        refine ⟨_, hs3, by simp, ?_⟩
        refine ⟨_, _, (hse4 _).jh _ _ y1, rfl, _, qc_up_s, by simp, ?_⟩
        simp only [qc_up_up]
        refine ⟨_, E.2.2.2.2, (hse4 _).jh _ _ y1, rfl, _, qc_up_s, by simp, ?_⟩
        simp only [qc_up_up]
        refine fin J (qc_up h3 se (qkSt L (ss i).1 ol sl re (upd (upd (upd (ss i).2.2.2.2 7 3) 7 0) 8 E.2.2.2.2))) re A f _ E.2.2.1 c (by omega) ?_ qkJw.rf (hse4 _) (by rw [qc_up_n hane]; exact ha3) qc_up_s ?_ (F3.tr (qkFx.up (Or.inr (Or.inl rfl)))) (by rw [qc_up_n hser.symm, hr3]; intro z; cases z)
        · unfold kf_pre
          simp only [hE, hE2]
        · exact y3.mono (fun e q => (hse4 _).jh _ _ q) (fun _ _ q => q)⟩⟩
end
