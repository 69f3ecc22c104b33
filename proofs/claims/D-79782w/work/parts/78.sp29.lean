/-! SP 29: a step taken back; a store asked for a step -/
set_option maxRecDepth 100000
def kf_undo (A : qkA) (d : qkDone) : qkA := match d.2.2 with
  | none => A
  | some r => sRow A (qkU (aRow A) d.1 ((aRow A d.1).eraseIdx ((kf_at (aRow A d.1) r.1).getD 0)))
def kf_redo (A : qkA) (d : qkDone) : qkA := match d.2.1 with
  | none => A
  | some q => sRow A (qkU (aRow A) d.1 (kf_lay (aRow A d.1) q))
def kf_back (A : qkA) (d : qkDone) : qkA := kf_written (kf_redo (kf_undo A d) d) d.1
section
variable {g : qh_G} {L : Nat → Nat} {J h : qc_H} {A : qkA} {c : Nat}
theorem kt_takeBack {p : Nat} {d : qkDone} {K : qc_H → Prop} (R : qkRep g L J h A) (hd : isDn g L J p d) (hpre : ∀ r, d.2.2 = some r → ∃ k, kf_at (aRow A d.1) r.1 = some k) (hlen : (aRow A d.1).length ≤ 12) (hwl : ∀ s, s < 6 → (aWr A s).length ≤ 600) (hml : (aMsg A).length ≤ 600) (hc : 1890 ≤ c)
    (hk : ∀ J' h', qkJs J J' → qkRep g L J' h' (kf_back A d) → qkFr L h h' → K h') : T_X18_takeBack g p h c K := by
  unfold T_X18_takeBack
  obtain ⟨hs, bo, ao, h1, hb, ha⟩ := hd
  have hp := R.jh _ _ h1
  refine ⟨_, ao, hp, rfl, fun J13 hJ13 => ?_⟩
  -- behind the first part
  have rest : ∀ h2, qkRep g L J h2 (kf_undo A d) → qkFr L h h2 → J13 h2 := by
    intro h2 R2 F2
    have hp2 := R2.jh _ _ h1
    have wr2 : aWr (kf_undo A d) = aWr A ∧ aMsg (kf_undo A d) = aMsg A ∧ (aRow (kf_undo A d) d.1).length ≤ 12 := by
      unfold kf_undo
      split
      · exact ⟨rfl, rfl, hlen⟩
      · refine ⟨rfl, rfl, ?_⟩
        show (qkU (aRow A) d.1 _ d.1).length ≤ 12
        rw [qkU_s]
        exact Nat.le_trans (List.length_eraseIdx_le _ _) hlen
    refine hJ13 _ ⟨_, bo, hp2, rfl, fun J24 hJ24 => ?_⟩
    have fin : ∀ h3 c3, 1828 ≤ c3 → qkRep g L J h3 (kf_redo (kf_undo A d) d) → qkFr L h h3 → J24 h3 c3 := by
      intro h3 c3 hc3 R3 F3
      have hp3 := R3.jh _ _ h1
      have w3 : aWr (kf_redo (kf_undo A d) d) = aWr A ∧ aMsg (kf_redo (kf_undo A d) d) = aMsg A := by
        unfold kf_redo
        split
        · exact ⟨wr2.1, wr2.2.1⟩
        · exact ⟨wr2.1, wr2.2.1⟩
      exact hJ24 _ _ ⟨_, _, hp3, rfl, _, _, hp3, rfl, ⟨_, R3.x⟩, ek 1828 hc3 (kt_written R3 hs (by rw [w3.1]; exact hwl _ hs) (by rw [w3.2]; exact hml) (Nat.le_refl _) fun J4 h4 j4 R4 F4 => hk J4 h4 j4 R4 (F3.tr F4))⟩
    refine ⟨fun z => ?_, fun y16 z => ?_⟩
    · refine fin h2 c (by omega) ?_ F2
      have e : d.2.1 = none := by
        cases hq : d.2.1 with
        | none => rfl
        | some q =>
          obtain ⟨y, y1, y2⟩ := hb.2 q hq
          rw [z] at y1
          cases y1
      unfold kf_redo
      rw [e]
      exact R2
    · cases hq : d.2.1 with
      | none =>
        have := hb.1 hq
        rw [this] at z
        cases z
      | some q =>
        obtain ⟨y, y1, y2⟩ := hb.2 q hq
        refine ⟨_, _, hp2, rfl, _, bo, hp2, rfl, y, y1, ⟨_, R2.src hs⟩, ek 50 (by omega) (kt_lay R2 hs y2 (by omega) (by omega) fun h3 R3 F3 => fin h3 _ (by omega) ?_ (F2.tr F3))⟩
        unfold kf_redo
        rw [hq]
        exact R3
  refine ⟨fun z => ?_, fun y2 z => ?_⟩
  · have e : d.2.2 = none := by
      cases hq : d.2.2 with
      | none => rfl
      | some q =>
        obtain ⟨y, y1, y2⟩ := ha.2 q hq
        rw [z] at y1
        cases y1
    refine rest h ?_ qkFr.rf
    unfold kf_undo
    rw [e]
    exact R
  · cases hq : d.2.2 with
    | none =>
      have := ha.1 hq
      rw [this] at z
      cases z
    | some r =>
      obtain ⟨y, y1, ca, y2, y3⟩ := ha.2 r hq
      obtain ⟨k, hk1⟩ := hpre r hq
      obtain ⟨hkl, hm⟩ := kf_at_lt hk1
      refine ⟨_, _, hp, rfl, _, _, R.src hs, rfl, _, _, hp, rfl, _, ao, hp, rfl, y, y1, _, r.1, R.jh _ _ y2, rfl, ⟨_, R.src hs⟩, kt_placeOf R hs ?_⟩
      have e : kf_pl (aRow A d.1) r.1 = nI k := by unfold kf_pl; rw [hk1]
      rw [e]
      refine rl_rem (R.rows hs) rfl (List.getElem?_eq_getElem hkl) fun y4 xs _ hx => ?_
      have R1 := R.pRow hs hx (by have := List.length_eraseIdx_le (aRow A d.1) k; omega)
      refine rest _ ?_ (qkFr.up (by omega))
      unfold kf_undo
      rw [hq]
      dsimp only
      rw [hk1]
      exact R1
end
