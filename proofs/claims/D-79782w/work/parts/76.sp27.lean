/-! SP 27: bundles' steps; a step done -/
set_option maxRecDepth 100000
def kf_six (a b c d e f : Int32) : Nat → Int32 := upd (upd (upd (upd (upd (upd (fun _ => 0) 0 a) 1 b) 2 c) 3 d) 4 e) 5 f
def kf_stepOk (k b c d : Int32) : Bool := decide (k = 0) || (decide (d = 0) && (decide (k = 1) || (decide (b = 0) && decide (c = 0))))
def kf_step2 (A : qkA) (k s a b c d : Int32) : Int32 × Int32 × qkA :=
  if s < 0 ∨ ¬ s < 6 then (1, 0, A) else if k < 0 ∨ 2 < k then (2, 0, A) else if kf_stepOk k b c d = false then (2, 0, A) else if 4 ≤ (aBun A).length then (3, 0, A) else
  (0, nI ((aBun A).length + 1), sBun A (aBun A ++ [kf_six k s a b c d]))
def kf_find (A : qkA) (s : Nat) (m : Int32) : Option qkRow := (kf_at (aRow A s) m).bind (fun k => (aRow A s)[k]?)
/-- a step that was done: the source, the row ahead, the row behind -/
abbrev qkDone : Type := Nat × Option qkRow × Option qkRow
def isOpt (g : qh_G) (J : qc_H) (o : Option Nat) (r : Option qkRow) : Prop := (r = none → o = none) ∧ ∀ q, r = some q → ∃ p, o = some p ∧ isRow g J p q
def isDn (g : qh_G) (L : Nat → Nat) (J : qc_H) (p : Nat) (v : qkDone) : Prop := v.1 < 6 ∧ ∃ bo ao : Option Nat, J p = some (.inl (.inr (15, [.ref (L (16 + v.1)), va_rf bo, va_rf ao, .ref (L 0)]))) ∧ isOpt g J bo v.2.1 ∧ isOpt g J ao v.2.2
theorem isOpt.mono {g : qh_G} {J J' : qc_H} {o : Option Nat} {r : Option qkRow} (k : isOpt g J o r) (hJ : qkJ J J') : isOpt g J' o r := ⟨k.1, fun q hq => by
  obtain ⟨p, h1, h2⟩ := k.2 q hq
  exact ⟨p, h1, isRow.mono hJ _ _ h2⟩⟩
theorem isDn.mono {g : qh_G} {L : Nat → Nat} {J J' : qc_H} {p : Nat} {v : qkDone} (k : isDn g L J p v) (hJ : qkJ J J') : isDn g L J' p v := by
  obtain ⟨h1, bo, ao, h2, h3, h4⟩ := k
  exact ⟨h1, bo, ao, hJ _ _ h2, h3.mono hJ, h4.mono hJ⟩
def kf_done (A : qkA) (f : Nat → Int32) : Option qkDone × qkA :=
  if f 0 = 0 then
    (if (kf_add A (f 1) (f 2) (f 3) (f 4) (f 5)).1 = 0 then (some ((f 1).toNatClampNeg, none, kf_find (kf_add A (f 1) (f 2) (f 3) (f 4) (f 5)).2.2 (f 1).toNatClampNeg (kf_add A (f 1) (f 2) (f 3) (f 4) (f 5)).2.1), (kf_add A (f 1) (f 2) (f 3) (f 4) (f 5)).2.2) else (none, (kf_add A (f 1) (f 2) (f 3) (f 4) (f 5)).2.2))
  else if f 0 = 1 then
    (if (kf_change A (f 1) (f 2) (f 3) (f 4)).1 = 0 then (some ((f 1).toNatClampNeg, kf_find A (f 1).toNatClampNeg (f 2), kf_find (kf_change A (f 1) (f 2) (f 3) (f 4)).2.2 (f 1).toNatClampNeg (f 2)), (kf_change A (f 1) (f 2) (f 3) (f 4)).2.2) else (none, (kf_change A (f 1) (f 2) (f 3) (f 4)).2.2))
  else
    (if (kf_remove A (f 1) (f 2)).1 = 0 then (some ((f 1).toNatClampNeg, kf_find A (f 1).toNatClampNeg (f 2), none), (kf_remove A (f 1) (f 2)).2.2) else (none, (kf_remove A (f 1) (f 2)).2.2))
theorem add_code {A : qkA} {v a b c d : Int32} : (kf_add A v a b c d).1 = 0 ∨ (kf_add A v a b c d).1 = 1 ∨ (kf_add A v a b c d).1 = 2 ∨ (kf_add A v a b c d).1 = 3 := by
  unfold kf_add
  split
  · exact Or.inr (Or.inl rfl)
  · split
    · exact Or.inr (Or.inr (Or.inl rfl))
    · split
      · exact Or.inr (Or.inr (Or.inr rfl))
      · exact Or.inl rfl
theorem change_code {A : qkA} {v m col x : Int32} : (kf_change A v m col x).1 = 0 ∨ (kf_change A v m col x).1 = 1 ∨ (kf_change A v m col x).1 = 2 := by
  unfold kf_change
  split
  · exact Or.inr (Or.inl rfl)
  · split
    · exact Or.inr (Or.inl rfl)
    · split
      · exact Or.inr (Or.inl rfl)
      · split
        · exact Or.inr (Or.inr rfl)
        · split
          · exact Or.inr (Or.inl rfl)
          · exact Or.inl rfl
theorem remove_code {A : qkA} {v m : Int32} : (kf_remove A v m).1 = 0 ∨ (kf_remove A v m).1 = 1 := by
  unfold kf_remove
  split
  · exact Or.inr rfl
  · split
    · exact Or.inr rfl
    · exact Or.inl rfl
section
variable {g : qh_G} {L : Nat → Nat} {J h : qc_H} {A : qkA} {c : Nat}
theorem kt_step2 {k s a b c' d : Int32} {K : Int32 → qc_H → Prop} {KX : String → qc_H → Prop} (R : qkRep g L J h A) (hc : 80 ≤ c) (hk : kO g L J h (kf_step2 A k s a b c' d) [xI, xA, xS] K KX) : T_X1_step_2 g (L 0) k s a b c' d h c K KX := by
  unfold T_X1_step_2
  unfold kf_step2 at hk
  refine ek 7 (by omega) (kt_known (Nat.le_refl 7) (fun c1 c2 => ?_) (fun z => ?_))
  rotate_left
  · rw [if_pos z] at hk
    exact (hk J h qkJs.rf qkFr.rf R).2 0 xI rfl rfl
  rw [if_neg (by rintro (z | z); exact c1 z; exact z c2)] at hk
  refine ek 7 (by omega) (kt_inRange (Nat.le_refl 7) (fun d1 d2 => ?_) (fun z => ?_))
  rotate_left
  · rw [if_pos z] at hk
    exact (hk J h qkJs.rf qkFr.rf R).2 1 xA rfl rfl
  rw [if_neg (by rintro (z | z); exact d1 z; exact d2 z)] at hk
  intro J11 hJ11
  have fin : J11 (b2 (kf_stepOk k b c' d)) := by
    refine hJ11 _ (ek 7 (by omega) (kt_fit (Nat.le_refl 7) (fun z => ?_) (fun z => ?_)))
    rotate_left
    · rw [if_pos (b2_eq0.mp z)] at hk
      exact (hk J h qkJs.rf qkFr.rf R).2 1 xA rfl rfl
    rw [if_neg (by rw [b2_n0.mp z]; decide)] at hk
    refine ⟨_, _, R.x, rfl, rl_size R.bun fun J18 hJ18 => ?_⟩
    by_cases h4 : 4 ≤ (aBun A).length
    · rw [if_pos h4] at hk
      have bad : J18 0 := hJ18 0 (ek 7 (by omega) (kt_allowed (Nat.le_refl 7) (fun q => absurd rfl q) (fun _ => (hk J h qkJs.rf qkFr.rf R).2 2 xS rfl rfl)))
      have hlen := R.bun.choose_spec.2.2
      exact ⟨fun _ => bad, fun z => absurd (show (4 : Int32) ≤ nI (aBun A).length from nI_le (a := 4) h4 (by omega)) z⟩
    · rw [if_neg h4] at hk
      have good : J18 1 := by
        refine hJ18 1 (ek 7 (by omega) (kt_allowed (Nat.le_refl 7) (fun _ => ?_) (fun q => absurd q (by decide))))
        refine ⟨_, _, R.x, rfl, by decide, by decide, c - 7 - 7 - 7 - 7 - 7, ?_, fun w hw => ?_⟩
        · show c - 7 - 7 - 7 - 7 = c - 7 - 7 - 7 - 7 - 7 + 7
          omega
        have e6 : Int32.toNatClampNeg 6 = 6 := by decide
        rw [e6]
        refine ⟨6, _, qc_up_s, (vp_in_nI (by decide) (by decide) : vp_in (nI 0) 6), ?_⟩
        rw [qc_up_up]
        refine ⟨6, _, qc_up_s, (vp_in_nI (by decide) (by decide) : vp_in (nI 1) 6), ?_⟩
        rw [qc_up_up]
        refine ⟨6, _, qc_up_s, (vp_in_nI (by decide) (by decide) : vp_in (nI 2) 6), ?_⟩
        rw [qc_up_up]
        refine ⟨6, _, qc_up_s, (vp_in_nI (by decide) (by decide) : vp_in (nI 3) 6), ?_⟩
        rw [qc_up_up]
        refine ⟨6, _, qc_up_s, (vp_in_nI (by decide) (by decide) : vp_in (nI 4) 6), ?_⟩
        rw [qc_up_up]
        refine ⟨6, _, qc_up_s, (vp_in_nI (by decide) (by decide) : vp_in (nI 5) 6), ?_⟩
        rw [qc_up_up]
        have ef : upd (upd (upd (upd (upd (upd (fun _ => 0) (Int32.toNatClampNeg 0) k) (Int32.toNatClampNeg 1) s) (Int32.toNatClampNeg 2) a) (Int32.toNatClampNeg 3) b) (Int32.toNatClampNeg 4) c') (Int32.toNatClampNeg 5) d = kf_six k s a b c' d := rfl
        rw [ef]
        obtain ⟨j1, R1, F1⟩ := kt_keep (e := .inl (g.2.2.2.1 0, 6, .inl (kf_six k s a b c' d))) R hw
        refine rl_add R1.bun qc_up_s rfl (show isStep g _ w (kf_six k s a b c' d) from qc_up_s) (by omega) fun xs hxs => ?_
        have R2 := R1.pBun hxs (by rw [List.length_append]; show (aBun A).length + 1 ≤ _; omega)
        refine ⟨_, _, R2.x, rfl, rl_size R2.bun ?_⟩
        have := (hk _ _ j1 (F1.tr (qkFr.up (by omega))) R2).1 rfl
        rw [List.length_append]
        exact this
      exact ⟨fun z => absurd z (show ¬ (4 : Int32) ≤ nI (aBun A).length from nI_ge (a := (aBun A).length) (b := (4 : Nat)) (by omega) (by decide)), fun _ => good⟩
  have fin' : ∀ q, kf_stepOk k b c' d = q → J11 (b2 q) := fun q e => by rw [← e]; exact fin
  unfold kf_stepOk at fin'
  refine ⟨fun z => fin' true (by simp [z]), fun z => ⟨fun z1 => fin' false (by simp [z, z1]), fun z1 => ⟨fun z2 => fin' true (by simp [z1, z2]), fun z2 => ⟨fun z3 => fin' false (by simp [z, z2, z3]), fun z3 => ⟨fun z4 => fin' false (by simp [z, z2, z4]), fun z4 => fin' true (by simp [z1, z3, z4])⟩⟩⟩⟩⟩
theorem kt_find {s : Nat} {m : Int32} {K : Option Nat → Prop} (R : qkRep g L J h A) (hs : s < 6) (hk : ∀ o, isOpt g J o (kf_find A s m) → K o) : T_X1_find g (L (16 + s)) m h K := by
  unfold T_X1_find
  have hlen := (R.rows hs).choose_spec.2.2
  refine ⟨⟨_, R.src hs⟩, kt_placeOf R hs ?_⟩
  unfold kf_find at hk
  cases hat : kf_at (aRow A s) m with
  | none =>
    rw [hat] at hk
    have e : kf_pl (aRow A s) m = -1 := by unfold kf_pl; rw [hat]
    rw [e]
    exact ⟨fun z => absurd rfl z, fun _ => hk none ⟨fun _ => rfl, fun q hq => by cases hq⟩⟩
  | some k =>
    rw [hat] at hk
    obtain ⟨hkl, hm⟩ := kf_at_lt hat
    have e : kf_pl (aRow A s) m = nI k := by unfold kf_pl; rw [hat]
    rw [e]
    have hg : (aRow A s)[k]? = some (aRow A s)[k] := List.getElem?_eq_getElem hkl
    refine ⟨fun _ => ⟨_, _, R.src hs, rfl, rl_get (R.rows hs) rfl hg fun p hp => ?_⟩, fun z => ?_⟩
    · have hp' := hp
      obtain ⟨ca, r1, r2⟩ := hp'
      refine ⟨⟨_, R.jh _ _ r1⟩, hk (some p) ⟨fun z => ?_, fun q hq => ⟨p, rfl, ?_⟩⟩⟩
      · have z : (aRow A s)[k]? = none := z
        rw [hg] at z
        cases z
      · have hq : (aRow A s)[k]? = some q := hq
        rw [hg] at hq
        cases hq
        exact hp
    · have : ¬ nI k < 0 := nI_pos (by omega)
      rw [z] at this
      exact absurd (by decide) this
theorem ki_X18 {w x s : Nat} {bo ao : Option Nat} {K : qc_H → Prop} (hk : K (qc_up h w (.inl (.inr (15, [.ref s, va_rf bo, va_rf ao, .ref x]))))) : T_X18_init g w x s bo ao (qc_up h w (.inl (.inr (15, [.null, .null, .null, .null])))) K := by
  unfold T_X18_init
  refine ⟨_, qc_up_s, by simp, ?_⟩
  rw [qc_up_up]
  refine ⟨_, qc_up_s, by simp, ?_⟩
  rw [qc_up_up]
  refine ⟨_, qc_up_s, by simp, ?_⟩
  rw [qc_up_up]
  refine ⟨_, qc_up_s, by simp, ?_⟩
  rw [qc_up_up]
  exact hk
theorem kt_mk {w s : Nat} {bo ao : Option Nat} {r1 r2 : Option qkRow} {K : qc_H → Prop} (R : qkRep g L J h A) (hs : s < 6) (hb : isOpt g J bo r1) (ha : isOpt g J ao r2) (hw : h w = none) (hk : ∀ J' h', qkJs J J' → qkFr L h h' → qkRep g L J' h' A → isDn g L J' w (s, r1, r2) → K h') : T_X18_init g w (L 0) (L (16 + s)) bo ao (qc_up h w (.inl (.inr (15, [.null, .null, .null, .null])))) K := by
  obtain ⟨j1, R1, F1⟩ := kt_keep (e := .inr (15, [.ref (L (16 + s)), va_rf bo, va_rf ao, .ref (L 0)])) R hw
  exact ki_X18 (hk _ _ j1 F1 R1 ⟨hs, bo, ao, qc_up_s, hb.mono j1.1, ha.mono j1.1⟩)
end
