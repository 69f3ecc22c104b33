/-! SP 4: sources: add, change, remove, count, cell -/
set_option maxRecDepth 100000
theorem qkFr.up2 {L : Nat → Nat} {h h' : qc_H} {a : Nat} {e : qc_E} (p : qkFr L h h') (ha : h a = none) : qkFr L h (qc_up h' a e) := fun b hb hn => by
  rw [qc_up_n (by intro z; subst z; exact hn ha)]
  exact p b hb hn
theorem ix_of {v : Int32} (n : Nat) (hn : n < 2 ^ 31) (h1 : ¬ v < 0) (h2 : v < nI n) : ∃ j, j < n ∧ v = nI j := by
  rcases pk_ix v hn with q | q | q
  · exact absurd q h1
  · exact absurd h2 (Int32.not_lt.mpr q)
  · exact q
/-- what a public method owes: what it throws (0: nothing), what it answers, the state behind it -/
def kO (g : qh_G) (L : Nat → Nat) (J h : qc_H) (r : Int32 × Int32 × qkA) (xs : List String) (K : Int32 → qc_H → Prop) (KX : String → qc_H → Prop) : Prop := ∀ J' h', qkJs J J' → qkFr L h h' → qkRep g L J' h' r.2.2 → (r.1 = 0 → K r.2.1 h') ∧ ∀ (i : Nat) (E : String), xs[i]? = some E → r.1 = nI (i + 1) → KX E h'
/-- .. one that changes nothing in the heap -/
def kP (r : Int32 × Int32) (xs : List String) (K : Int32 → Prop) (KX : String → Prop) : Prop := (r.1 = 0 → K r.2) ∧ ∀ (i : Nat) (E : String), xs[i]? = some E → r.1 = nI (i + 1) → KX E
def kf_cell4 (a b c d : Int32) : Nat → Int32 := fun k => if k = 0 then a else if k = 1 then b else if k = 2 then c else if k = 3 then d else 0
def kf_room (A : qkA) (s : Nat) (a : Int32) : Bool := decide (¬ 12 ≤ (aRow A s).length) && (if kf_hasKey (s / 2) then (kf_at (aRow A s) a).isNone else decide (¬ 60 ≤ aSr A s 4))
def kf_fits (t : Nat) (f : Nat → Int32) : Bool := (List.range 4).all (fun k => kf_fit t (nI k) (f k))
def kf_loss (t : Nat) (f : Nat → Int32) (l : Int32) : Nat → Int32
  | 0 => l
  | k + 1 => kf_loss t f l k + (if kf_kept t (nI k) (f k) = f k then 0 else 1)
def kf_keep (t : Nat) (f : Nat → Int32) (k : Nat) : Nat → Int32 := fun j => if j < k then kf_kept t (nI j) (f j) else f j
def kf_mark (A : qkA) (s : Nat) (a : Int32) : Int32 := if kf_hasKey (s / 2) then a else aSr A s 4
def kf_add1 (A : qkA) (s : Nat) (a : Int32) (f : Nat → Int32) : qkA := sRow (sSr (sQ A (upd (aQ A) 13 (kf_loss (s / 2) f (aQ A 13) 4))) (qkU (aSr A) s (upd (aSr A s) 4 (aSr A s 4 + 1)))) (qkU (aRow A) s (kf_lay (aRow A s) (kf_mark A s a, kf_keep (s / 2) f 4)))
def kf_add (A : qkA) (v a b c d : Int32) : Int32 × Int32 × qkA :=
  if v < 0 ∨ ¬ v < 6 then (1, 0, A) else
  if kf_fits (v.toNatClampNeg / 2) (kf_cell4 a b c d) = false then (2, 0, A) else
  if kf_room A v.toNatClampNeg a = false then (3, 0, A) else
  (0, kf_mark A v.toNatClampNeg a, kf_written (kf_add1 A v.toNatClampNeg a (kf_cell4 a b c d)) v.toNatClampNeg)
section
variable {g : qh_G} {L : Nat → Nat} {J h : qc_H} {A : qkA} {c : Nat}
theorem kt_sourceAt {v : Int32} {K : Nat → Prop} {KX : String → Prop} (R : qkRep g L J h A) (hc : 7 ≤ c) (h1 : ∀ s, s < 6 → v = nI s → ¬ (v < 0 ∨ ¬ v < 6) → K (L (16 + s))) (h2 : (v < 0 ∨ ¬ v < 6) → KX xI) : T_X1_sourceAt g (L 0) v h c K KX := by
  unfold T_X1_sourceAt
  refine ⟨_, _, R.x, rfl, ek 7 hc (kt_known (Nat.le_refl 7) (fun c1 c2 => ?_) h2)⟩
  obtain ⟨j, hj, rfl⟩ := ix_of 6 (by decide) c1 c2
  exact ⟨_, _, L (16 + j), R.srcs, vp_in_nI hj (by decide), by rw [nI_clamp (by omega)], h1 j hj rfl (by rintro (z | z); exact c1 z; exact z c2)⟩
theorem kt_lineAt {v : Int32} {K : Nat → Prop} {KX : String → Prop} (R : qkRep g L J h A) (hc : 7 ≤ c) (h1 : ∀ l, l < 3 → v = nI l → ¬ (v < 0 ∨ ¬ v < 3) → K (L (10 + l))) (h2 : (v < 0 ∨ ¬ v < 3) → KX xI) : T_X1_lineAt g (L 0) v h c K KX := by
  unfold T_X1_lineAt
  refine ⟨_, _, R.x, rfl, ek 7 hc (kt_known (Nat.le_refl 7) (fun c1 c2 => ?_) h2)⟩
  obtain ⟨j, hj, rfl⟩ := ix_of 3 (by decide) c1 c2
  exact ⟨_, _, L (10 + j), R.lines, vp_in_nI hj (by decide), by rw [nI_clamp (by omega)], h1 j hj rfl (by rintro (z | z); exact c1 z; exact z c2)⟩
theorem kf_cell4_eq {a b c d : Int32} : upd (upd (upd (upd (fun _ => 0) 0 a) 1 b) 2 c) 3 d = kf_cell4 a b c d := by
  funext k
  unfold kf_cell4 upd
  by_cases h0 : k = 0
  · subst h0; rfl
  by_cases h1 : k = 1
  · subst h1; rfl
  by_cases h2 : k = 2
  · subst h2; rfl
  by_cases h3 : k = 3
  · subst h3; rfl
  simp [h0, h1, h2, h3]
theorem kf_keep_s {t k : Nat} {f : Nat → Int32} : upd (kf_keep t f k) k (kf_kept t (nI k) (f k)) = kf_keep t f (k + 1) := by
  funext j
  unfold kf_keep upd
  by_cases h0 : j = k
  · subst h0
    simp
  · by_cases h1 : j < k
    · simp [h0, h1, Nat.lt_succ_of_lt h1]
    · simp [h0, h1, show ¬ j < k + 1 by omega]
theorem kt_add {v a b c' d : Int32} {K : Int32 → qc_H → Prop} {KX : String → qc_H → Prop} (R : qkRep g L J h A) (hwl : ∀ s, s < 6 → (aWr A s).length ≤ 600) (hml : (aMsg A).length ≤ 600) {e0 : Nat} (he : (kf_add A v a b c' d).1 = 0 → e0 = 1900) (hc : 100 + e0 ≤ c) (hk : kO g L J h (kf_add A v a b c' d) [xI, xA, xS] K KX) : T_X1_add g (L 0) v a b c' d h c K KX := by
  unfold T_X1_add
  refine ⟨⟨_, R.x⟩, ek 7 (by omega) (kt_sourceAt R (Nat.le_refl 7) (fun s hs hv hin => ?_) (fun z => ?_))⟩
  rotate_left
  · have := (hk J h qkJs.rf qkFr.rf (by unfold kf_add; rw [if_pos z]; exact R)).2 0 xI rfl (by unfold kf_add; rw [if_pos z]; rfl)
    exact this
  unfold kf_add at hk he
  rw [if_neg hin] at hk he
  have hvs : v.toNatClampNeg = s := by rw [hv, nI_clamp (by omega)]
  rw [hvs] at hk he
  clear hin
  refine ⟨by decide, by decide, c - 7 - 5, by show c - 7 = c - 7 - 5 + 5; omega, fun w hw => ?_⟩
  refine ⟨_, _, qc_up_s, qm_lit rfl, _, _, qc_up_s, qm_lit rfl, _, _, qc_up_s, qm_lit rfl, _, _, qc_up_s, qm_lit rfl, ?_⟩
  simp only [qc_up_up]
  have hF : upd (upd (upd (upd (fun _ => 0) (0 : Int32).toNatClampNeg a) (1 : Int32).toNatClampNeg b) (2 : Int32).toNatClampNeg c') (3 : Int32).toNatClampNeg d = kf_cell4 a b c' d := kf_cell4_eq
  rw [hF]
  generalize hf : kf_cell4 a b c' d = f at hk he ⊢
  have R0 := R.other (e := .inl (.inl (g.2.2.2.1 0, 4, .inl f))) (R.fresh hw) (R.Jn hw)
  have F0 : qkFr L h (qc_up h w (.inl (.inl (g.2.2.2.1 0, 4, .inl f)))) := qkFr.new (Or.inl hw)
  have hwF := R.fresh hw
  have hw0 : (qc_up h w (.inl (.inl (g.2.2.2.1 0, 4, .inl f)))) w = some (.inl (.inl (g.2.2.2.1 0, 4, .inl f))) := qc_up_s
  have h4 : (4 : Int32).toNatClampNeg = 4 := rfl
  rw [h4]
  generalize qc_up h w (.inl (.inl (g.2.2.2.1 0, 4, .inl f))) = h0 at R0 F0 hw0 ⊢
  have hs3 : s / 2 < 3 := by omega
  refine ⟨_, _, R0.src hs, rfl, _, _, R0.line hs3, rfl, fun X hX => ?_⟩
  have key : ∀ n k c1, k + n = 4 → e0 + 7 + 7 * n ≤ c1 → (∀ j, j < k → kf_fit (s / 2) (nI j) (f j) = true) → X (nI k) c1 := by
    intro n
    induction n with
    | zero =>
      intro k c1 hkn hc1 hall
      have hk4 : k = 4 := by omega
      subst hk4
      refine hX _ _ ⟨fun _ => ?_, fun z => absurd (by decide) z⟩
      have hfits : kf_fits (s / 2) f = true := by
        unfold kf_fits
        rw [List.all_eq_true]
        intro k hk
        exact hall k (List.mem_range.mp hk)
      rw [if_neg (by rw [hfits]; decide)] at hk he
      refine ⟨_, _, R0.src hs, rfl, rl_size (R0.rows hs) fun J27 hJ27 => ?_⟩
      -- not allowed
      have bad : kf_room A s a = false → J27 0 := by
        intro hr
        refine hJ27 0 (ek 7 (by omega) (kt_allowed (Nat.le_refl 7) (fun z => absurd rfl z) (fun _ => ?_)))
        rw [if_pos hr] at hk
        exact (hk J h0 qkJs.rf F0 R0).2 2 xS rfl rfl
      have good : kf_room A s a = true → J27 1 := by
        intro hr
        rw [if_neg (by rw [hr]; decide)] at hk he
        have he1 := he rfl
        have hrl : (aRow A s).length < 12 := by
          unfold kf_room at hr
          rw [Bool.and_eq_true] at hr
          have := of_decide_eq_true hr.1
          omega
        refine hJ27 1 (ek 7 (by omega) (kt_allowed (Nat.le_refl 7) (fun _ => ?_) (fun z => absurd z (by decide))))
        intro X2 hX2
        have key2 : ∀ n k h2, k + n = 4 → qkRep g L J h2 (sQ A (upd (aQ A) 13 (kf_loss (s / 2) f (aQ A 13) k))) → qkFr L h h2 → h2 w = some (.inl (.inl (g.2.2.2.1 0, 4, .inl (kf_keep (s / 2) f k)))) → X2 (nI k) h2 := by
          intro n
          induction n with
          | zero =>
            intro k h2 hkn R2 F2 hw2
            have hk4 : k = 4 := by omega
            subst hk4
            refine hX2 _ _ ⟨fun _ => ?_, fun z => absurd (by decide) z⟩
            refine kt_hasKey R2 hs3 fun J39 hJ39 => ?_
            have fin : J39 (kf_mark A s a) := by
              refine hJ39 _ ⟨_, aSr A s 4, R2.src hs, rfl, ks_put R2 hs (by omega) rfl fun h3 R3 F3 => ?_⟩
              refine ⟨c1 - 7 - 3, by omega, fun wr hwr => ki_X9 ?_⟩
              have hw3 := F3.at hwF hw2
              have R4 := R3.freeze hwF (R.freshG hw) hw3
              obtain ⟨k1, R5, F5⟩ := kt_keep (e := .inr (8, [.int (kf_mark A s a), .ref w])) R4 hwr
              have hne : w ≠ wr := by
                intro z
                rw [z, hwr] at hw3
                cases hw3
              have hrow : isRow g (qc_up (qc_up J w (.inl (.inl (g.2.2.2.1 0, 4, .inl (kf_keep (s / 2) f 4))))) wr (.inl (.inr (8, [.int (kf_mark A s a), .ref w])))) wr (kf_mark A s a, kf_keep (s / 2) f 4) := ⟨w, qc_up_s, by rw [qc_up_n hne]; exact qc_up_s⟩
              refine ⟨⟨_, R5.src hs⟩, ek 29 (by omega) (kt_lay R5 hs hrow (by show (aRow A s).length < _; omega) (by show (aRow A s).length + (aRow A s).length / 2 + 11 ≤ _; omega) fun h6 R6 F6 => ?_)⟩
              refine ⟨⟨_, R6.x⟩, ek 1828 (by omega) (kt_written R6 hs (hwl s hs) hml (Nat.le_refl _) fun J7 h7 k7 R7 F7 => ?_)⟩
              have kJ : qkJs J (qc_up J w (.inl (.inl (g.2.2.2.1 0, 4, .inl (kf_keep (s / 2) f 4))))) := qkJs.up (Or.inl (R.Jn hw))
              exact (hk J7 h7 ((kJ.tr k1).tr k7) (((((F2.tr F3).tr F5)).tr F6).tr F7) R7).1 rfl
            refine ⟨fun z => ⟨_, aSr A s 4, R2.src hs, rfl, ?_⟩, fun z => ?_⟩
            · have : kf_mark A s a = aSr A s 4 := by unfold kf_mark; rw [if_neg (by rw [b2_eq0.mp z]; decide)]
              rw [this] at fin
              exact fin
            · have : kf_mark A s a = a := by unfold kf_mark; rw [if_pos (b2_n0.mp z)]
              rw [this] at fin
              exact fin
          | succ n ih =>
            intro k h2 hkn R2 F2 hw2
            have hk' : k < 4 := by omega
            refine hX2 _ _ ⟨fun z => absurd z (nI_ge (show k < 4 by omega) (by decide)), fun _ => ?_⟩
            have hkk : kf_keep (s / 2) f k k = f k := by unfold kf_keep; rw [if_neg (by omega)]
            refine ⟨4, _, hw2, vp_in_nI hk' (by decide), ?_⟩
            rw [nI_clamp (by omega), hkk]
            refine kt_kept R2 hs3 ⟨_, kf_loss (s / 2) f (aQ A 13) k, R2.x, rfl, 4, _, hw2, vp_in_nI hk' (by decide), ?_⟩
            rw [nI_clamp (by omega), hkk]
            intro J58 hJ58
            have fin : J58 (if kf_kept (s / 2) (nI k) (f k) = f k then 0 else 1) := by
              refine hJ58 _ (kx_put R2 (by omega) rfl fun h3 R3 F3 => ?_)
              refine ⟨4, _, F3.at hwF hw2, vp_in_nI hk' (by decide), ?_⟩
              rw [nI_1, nI_clamp (by omega), kf_keep_s]
              refine ih (k + 1) _ (by omega) ?_ ((F2.tr F3).up2 hw) qc_up_s
              have hq : upd (upd (aQ A) 13 (kf_loss (s / 2) f (aQ A 13) k)) 13 (kf_loss (s / 2) f (aQ A 13) k + (if kf_kept (s / 2) (nI k) (f k) = f k then 0 else 1)) = upd (aQ A) 13 (kf_loss (s / 2) f (aQ A 13) (k + 1)) := by
                funext j
                unfold upd
                by_cases hj : j = 13
                · simp [hj, kf_loss]
                · simp [hj]
              have R3' : qkRep g L J h3 (sQ A (upd (upd (aQ A) 13 (kf_loss (s / 2) f (aQ A 13) k)) 13 (kf_loss (s / 2) f (aQ A 13) k + (if kf_kept (s / 2) (nI k) (f k) = f k then 0 else 1)))) := R3
              rw [hq] at R3'
              exact R3'.other hwF (R.Jn hw)
            refine ⟨fun z => ?_, fun z => ?_⟩
            · rw [if_pos z] at fin
              exact fin
            · rw [if_neg z] at fin
              exact fin
        refine key2 4 0 h0 (by omega) ?_ F0 ?_
        · have hq : upd (aQ A) 13 (kf_loss (s / 2) f (aQ A 13) 0) = aQ A := by
            funext j
            unfold upd kf_loss
            by_cases hj : j = 13
            · simp [hj]
            · simp [hj]
          rw [hq]
          exact R0
        · have : kf_keep (s / 2) f 0 = f := by funext j; unfold kf_keep; rw [if_neg (by omega)]
          rw [this]
          exact hw0
      refine ⟨fun z => bad ?_, fun z => kt_hasKey R0 hs3 ⟨fun z1 => ⟨_, aSr A s 4, R0.src hs, rfl, fun z2 => bad ?_, fun z2 => good ?_⟩, fun z1 => ⟨⟨_, R0.src hs⟩, kt_placeOf R0 hs ⟨fun z2 => bad ?_, fun z2 => good ?_⟩⟩⟩⟩
      · have : 12 ≤ (aRow A s).length := (nI_leI (a := 12) (by decide) (by have := (R.rows hs).choose_spec.2.2; omega)).mp z
        simp [kf_room, this]
      · have : kf_hasKey (s / 2) = false := b2_eq0.mp z1
        simp [kf_room, this, z2]
      · have h1 : kf_hasKey (s / 2) = false := b2_eq0.mp z1
        have h2 : ¬ 12 ≤ (aRow A s).length := fun q => z ((nI_leI (a := 12) (by decide) (by have := (R.rows hs).choose_spec.2.2; omega)).mpr q)
        simp only [kf_room, h1, Bool.and_eq_true, decide_eq_true_eq]
        exact ⟨h2, by simpa using z2⟩
      · have h1 : kf_hasKey (s / 2) = true := b2_n0.mp z1
        have : kf_at (aRow A s) a ≠ none := fun q => z2 (by unfold kf_pl; rw [q])
        simp only [kf_room, h1, if_true]
        cases hq : kf_at (aRow A s) a with
        | none => exact absurd hq this
        | some k => simp
      · have h1 : kf_hasKey (s / 2) = true := b2_n0.mp z1
        have h2 : ¬ 12 ≤ (aRow A s).length := fun q => z ((nI_leI (a := 12) (by decide) (by have := (R.rows hs).choose_spec.2.2; omega)).mpr q)
        have : kf_at (aRow A s) a = none := by
          cases hq : kf_at (aRow A s) a with
          | none => rfl
          | some k =>
            exfalso
            unfold kf_pl at z2
            rw [hq] at z2
            have hk1 : k < (aRow A s).length := by
              unfold kf_at at hq
              rw [List.findIdx?_eq_some_iff_getElem] at hq
              exact hq.1
            exact nI_pos (n := k) (by have := (R.rows hs).choose_spec.2.2; omega) (by rw [show nI k = -1 from z2]; decide)
        simp only [kf_room, h1, if_true, this, Option.isNone_none, Bool.and_true, decide_eq_true_eq]
        exact h2
    | succ n ih =>
      intro k c1 hkn hc1 hall
      have hk' : k < 4 := by omega
      refine hX _ _ ⟨fun z => absurd z (nI_ge (show k < 4 by omega) (by decide)), fun _ => ?_⟩
      refine ⟨4, _, hw0, vp_in_nI hk' (by decide), ?_⟩
      rw [nI_clamp (by omega)]
      refine kt_isFit R0 hs3 (ek 7 (by omega) (kt_fit (Nat.le_refl 7) (fun z => ?_) (fun z => ?_)))
      · rw [nI_1]
        refine ih (k + 1) _ (by omega) (by omega) fun j hj => ?_
        by_cases e : j = k
        · subst e
          exact b2_n0.mp z
        · exact hall j (by omega)
      · have hfits : kf_fits (s / 2) f = false := by
          unfold kf_fits
          rw [List.all_eq_false]
          exact ⟨k, List.mem_range.mpr hk', by rw [b2_eq0.mp z]; decide⟩
        rw [if_pos hfits] at hk
        exact (hk J h0 qkJs.rf F0 R0).2 1 xA rfl rfl
  exact key 4 0 _ (by omega) (by omega) (fun j hj => absurd hj (Nat.not_lt_zero j))
end
