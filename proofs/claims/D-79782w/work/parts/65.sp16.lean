/-! SP 16: writes' moments; ranks; links of a choice of rows; an answer's rows cut -/
set_option maxRecDepth 100000
def kf_since (ws : List Int32) (m : Int32) : Int32 := ws.foldl (fun a w => if m < w then a else w) 0
def kf_until (ws : List Int32) (m now : Int32) : Int32 := ws.foldr (fun w a => if w ≤ m then a else w - 1) now
def kf_rank (v : Int32) : Int32 := if v = 5001 then -1001 else if v = 5000 then -1000 else v
/-- a row of an answer: its length, its cells -/
abbrev qkV : Type := Nat × (Nat → Int32)
/-- an answer's rows: arrays that may change -/
def qkVs (g : qh_G) (L : Nat → Nat) (J B h : qc_H) (p : Nat) (vs : List qkV) : Prop := ∃ xs : List Nat, h p = some (.inr xs) ∧ qkL (fun a (v : qkV) => h a = some (.inl (.inl (g.2.2.2.1 0, v.1, .inl v.2)))) xs vs ∧ vs.length ≤ 20000 ∧ xs.Nodup ∧ ∀ a ∈ xs, qkF L a ∧ J a = none ∧ B a = none
/-- all links of a seat with earlier ones hold -/
def kf_linkedAt (ls : List qkC) (M : Nat → qkRow) (s : Nat) : Bool := ls.all (fun l => !decide (l.2.2.1 = nI s) || kf_lholds l (M l.1.toNatClampNeg) (M s))
/-- a choice of rows, as an array; good below s -/
def qkMt (g : qh_G) (J h : qc_H) (ml : Nat) (M : Nat → qkRow) (s : Nat) : Prop := ∃ F : Nat → Option Nat, h ml = some (.inl (.inl (g.2.2.2.1 6, 3, .inr (.inr (.inr (.inr F)))))) ∧ ∀ i, i < s → ∃ p, F i = some p ∧ isRow g J p (M i)
/-- a link of the draft -/
def qkLk (l : qkC) : Prop := (∃ a b, a < b ∧ b < 3 ∧ l.1 = nI a ∧ l.2.2.1 = nI b) ∧ (∃ q, q < 4 ∧ l.2.1 = nI q) ∧ (∃ q, q < 4 ∧ l.2.2.2 = nI q)
section
variable {g : qh_G} {L : Nat → Nat} {J h : qc_H} {A : qkA} {c : Nat}
theorem kt_since {s : Nat} {m : Int32} {K : Int32 → Prop} (R : qkRep g L J h A) (hs : s < 6) (hk : K (kf_since (aWr A s) m)) : T_X7_since g (L (16 + s)) m h K := by
  unfold T_X7_since
  have hlen := (R.wr hs).choose_spec.2.2
  intro X hX
  have key : ∀ n k, k + n = (aWr A s).length → X (((aWr A s).take k).foldl (fun a w => if m < w then a else w) 0) (nI k) := by
    intro n
    induction n with
    | zero =>
      intro k hkn
      refine hX _ _ ⟨_, _, R.src hs, rfl, rl_size (R.wr hs) ⟨fun _ => ?_, fun z => absurd (nI_le (by omega) (by omega)) z⟩⟩
      rw [List.take_of_length_le (by omega)]
      exact hk
    | succ n ih =>
      intro k hkn
      have hk' : k < (aWr A s).length := by omega
      refine hX _ _ ⟨_, _, R.src hs, rfl, rl_size (R.wr hs) ⟨fun z => absurd z (nI_ge (by omega) (by omega)), fun _ => ?_⟩⟩
      refine ⟨_, _, R.src hs, rfl, rl_get (R.wr hs) rfl (List.getElem?_eq_getElem hk') fun y hy => ?_⟩
      have y1 := R.jh _ _ hy
      refine ⟨⟨_, y1⟩, _, y1, fun J14 hJ14 => ?_⟩
      have fin : J14 (if m < (aWr A s)[k] then ((aWr A s).take k).foldl (fun a w => if m < w then a else w) 0 else (aWr A s)[k]) := by
        refine hJ14 _ ?_
        have := ih (k + 1) (by omega)
        rw [foldl_snoc hk'] at this
        rw [nI_1]
        exact this
      refine ⟨fun z => by rw [if_pos z] at fin; exact fin, fun z => ?_⟩
      rw [if_neg z] at fin
      refine ⟨_, _, R.src hs, rfl, rl_get (R.wr hs) rfl (List.getElem?_eq_getElem hk') fun y' hy' => ?_⟩
      exact ⟨⟨_, R.jh _ _ hy'⟩, _, R.jh _ _ hy', fin⟩
  exact key (aWr A s).length 0 (by omega)
theorem kt_until {s : Nat} {m now : Int32} {K : Int32 → Prop} (R : qkRep g L J h A) (hs : s < 6) (hk : K (kf_until (aWr A s) m now)) : T_X7_until g (L (16 + s)) m now h K := by
  unfold T_X7_until
  have hlen := (R.wr hs).choose_spec.2.2
  refine ⟨_, _, R.src hs, rfl, rl_size (R.wr hs) fun X hX => ?_⟩
  have key : ∀ k, k ≤ (aWr A s).length → X (((aWr A s).drop k).foldr (fun w a => if w ≤ m then a else w - 1) now) (nI k - 1) := by
    intro k
    induction k with
    | zero =>
      intro _
      exact hX _ _ ⟨fun _ => hk, fun z => absurd (by decide) z⟩
    | succ k ih =>
      intro hkl
      rw [nI_pred]
      have hk' : k < (aWr A s).length := by omega
      refine hX _ _ ⟨fun z => absurd z (nI_pos (by omega)), fun _ => ?_⟩
      refine ⟨_, _, R.src hs, rfl, rl_get (R.wr hs) rfl (List.getElem?_eq_getElem hk') fun y hy => ?_⟩
      have y1 := R.jh _ _ hy
      refine ⟨⟨_, y1⟩, _, y1, fun J14 hJ14 => ?_⟩
      have fin : J14 (if (aWr A s)[k] ≤ m then ((aWr A s).drop (k + 1)).foldr (fun w a => if w ≤ m then a else w - 1) now else (aWr A s)[k] - 1) := by
        refine hJ14 _ ?_
        have := ih (by omega)
        rw [List.drop_eq_getElem_cons hk', List.foldr_cons] at this
        rw [show nI k + (-1) = nI k - 1 by rw [Int32.sub_eq_add_neg]]
        exact this
      refine ⟨fun z => by rw [if_pos z] at fin; exact fin, fun z => ?_⟩
      rw [if_neg z] at fin
      refine ⟨_, _, R.src hs, rfl, rl_get (R.wr hs) rfl (List.getElem?_eq_getElem hk') fun y' hy' => ?_⟩
      exact ⟨⟨_, R.jh _ _ hy'⟩, _, R.jh _ _ hy', fin⟩
  have h0 := key (aWr A s).length (Nat.le_refl _)
  rw [List.drop_length] at h0
  exact h0
theorem kt_rank {v : Int32} {K : Int32 → Prop} (hk : K (kf_rank v)) : T_X1_rank g v h K := by
  unfold T_X1_rank
  refine ⟨fun z => ⟨fun z1 => ?_, fun z1 => ?_⟩, fun z => ?_⟩
  · simpa [kf_rank, z, z1] using hk
  · simpa [kf_rank, z, z1] using hk
  · simpa [kf_rank, z] using hk
theorem kt_lholds {p a b : Nat} {l : qkC} {r q : qkRow} {K : Int32 → Prop} (hJ : qkJ J h) (hl : isLink J p l) (hr : isRow g J a r) (hq : isRow g J b q) (h1 : ∃ q, q < 4 ∧ l.2.1 = nI q) (h2 : ∃ q, q < 4 ∧ l.2.2.2 = nI q) (hk : K (b2 (kf_lholds l r q))) : T_X11_holdsFor g p a b h K := by
  unfold T_X11_holdsFor
  have l1 : h p = some (.inl (.inr (10, [.int l.1, .int l.2.1, .int l.2.2.1, .int l.2.2.2]))) := hJ _ _ hl
  obtain ⟨ca, r1, r2⟩ := hr
  obtain ⟨cb, q1, q2⟩ := hq
  obtain ⟨i, hi, hic⟩ := h1
  obtain ⟨j, hj, hjc⟩ := h2
  refine ⟨_, _, hJ _ _ r1, rfl, _, l.2.1, l1, rfl, 4, r.2, hJ _ _ r2, by rw [hic]; exact vp_in_nI hi (by decide), kt_isNumber ⟨fun z => ?_, fun z => ?_⟩⟩
  · have : kf_lholds l r q = false := by unfold kf_lholds; rw [b2_eq0.mp z]; rfl
    rw [this] at hk
    exact hk
  · refine ⟨_, _, hJ _ _ r1, rfl, _, l.2.1, l1, rfl, 4, r.2, hJ _ _ r2, by rw [hic]; exact vp_in_nI hi (by decide), _, _, hJ _ _ q1, rfl, _, l.2.2.2, l1, rfl, 4, q.2, hJ _ _ q2, by rw [hjc]; exact vp_in_nI hj (by decide), fun z1 => ?_, fun z1 => ?_⟩
    · have : kf_lholds l r q = false := by unfold kf_lholds; rw [decide_eq_false z1, Bool.and_false]
      rw [this] at hk
      exact hk
    · have : kf_lholds l r q = true := by unfold kf_lholds; rw [b2_n0.mp z, decide_eq_true z1]; rfl
      rw [this] at hk
      exact hk
theorem kt_areLinked {ml s : Nat} {M : Nat → qkRow} {K : Int32 → Prop} (R : qkRep g L J h A) (hM : qkMt g J h ml M (s + 1)) (hs : s < 3) (hlk : ∀ l ∈ aLink A, qkLk l) (hk : K (b2 (kf_linkedAt (aLink A) M s))) : T_X1_areLinked g (L 0) ml (nI s) h K := by
  unfold T_X1_areLinked
  have hlen := R.links.choose_spec.2.2
  obtain ⟨F, hF, hM⟩ := hM
  intro X hX
  have key : ∀ n k, k + n = (aLink A).length → X (b2 (((aLink A).take k).all (fun l => !decide (l.2.2.1 = nI s) || kf_lholds l (M l.1.toNatClampNeg) (M s)))) (nI k) := by
    intro n
    induction n with
    | zero =>
      intro k hkn
      refine hX _ _ ⟨_, _, R.x, rfl, rl_size R.links ⟨fun _ => ⟨b2_z, ?_⟩, fun z => absurd (nI_le (by omega) (by omega)) z⟩⟩
      rw [List.take_of_length_le (by omega)]
      exact hk
    | succ n ih =>
      intro k hkn
      have hk' : k < (aLink A).length := by omega
      refine hX _ _ ⟨_, _, R.x, rfl, rl_size R.links ⟨fun z => absurd z (nI_ge (by omega) (by omega)), fun _ => ?_⟩⟩
      refine ⟨_, _, R.x, rfl, rl_get R.links rfl (List.getElem?_eq_getElem hk') fun y hy => ?_⟩
      have hlm := hlk _ (List.getElem_mem hk')
      have hnext := ih (k + 1) (by omega)
      rw [all_snoc (p := fun l => !decide (l.2.2.1 = nI s) || kf_lholds l (M l.1.toNatClampNeg) (M s)) hk', ← b2_and] at hnext
      generalize (aLink A)[k] = l at hy hlm hnext
      have y1 : h y = some (.inl (.inr (10, [.int l.1, .int l.2.1, .int l.2.2.1, .int l.2.2.2]))) := R.jh _ _ hy
      obtain ⟨⟨a, b, hab, hb3, ha, hbb⟩, hc1, hc2⟩ := hlm
      refine ⟨⟨_, y1⟩, _, l.2.2.1, y1, rfl, fun J18 hJ18 => ?_⟩
      have fin : J18 (b2 (!decide (l.2.2.1 = nI s) || kf_lholds l (M l.1.toNatClampNeg) (M s))) := by
        refine hJ18 _ ?_
        rw [nI_1]
        exact hnext
      refine ⟨fun z => ?_, fun z => ?_⟩
      · rw [decide_eq_false z] at fin
        exact fin
      · have hbs : b = s := by
          rw [hbb] at z
          exact (nI_eq (by omega) (by omega)).mp z
        obtain ⟨pa, f1, m1⟩ := hM a (by omega)
        obtain ⟨ps, f2, m2⟩ := hM s (by omega)
        have hac : l.1.toNatClampNeg = a := by rw [ha]; exact nI_clamp (by omega)
        rw [hac, decide_eq_true z] at fin
        refine ⟨_, nI a, y1, by rw [← ha]; rfl, 3, F, pa, hF, vp_in_nI (by omega) (by decide), by rw [nI_clamp (by omega)]; exact f1, 3, F, ps, hF, vp_in_nI hs (by decide), by rw [nI_clamp (by omega)]; exact f2, ⟨_, y1⟩, kt_lholds R.jh hy m1 m2 hc1 hc2 ⟨fun q => ?_, fun q => ?_⟩⟩
        · rw [b2_eq0.mp q] at fin
          exact fin
        · rw [b2_n0.mp q] at fin
          exact fin
  exact key (aLink A).length 0 (by omega)
theorem kt_cut {an arl atl lim : Nat} {B : qc_H} {f : Nat → Int32} {vs : List qkV} {K : qc_H → Prop} (R : qkRep g L J h A) (han : h an = some (qkAn arl atl f)) (hv : qkVs g L J B h arl vs) (haF : qkF L arl) (haJ : J arl = none) (hlim : aQ A 10 = nI lim) (hl4 : lim ≤ 40)
    (hk : ∀ h', qkRep g L J h' A → h' an = some (qkAn arl atl f) → qkVs g L J B h' arl (vs.take lim) → qkFx L (fun a => a = arl) h h' → K h') : T_X1_cut g (L 0) an h K := by
  unfold T_X1_cut
  intro X hX
  have hne : an ≠ arl := by
    obtain ⟨xs, x1, -⟩ := hv
    intro z
    rw [z, x1] at han
    cases han
  have key : ∀ n h1, qkRep g L J h1 A → h1 an = some (qkAn arl atl f) → lim + n ≤ vs.length ∨ n = 0 → qkVs g L J B h1 arl (vs.take (lim + n)) → qkFx L (fun a => a = arl) h h1 → X h1 := by
    intro n
    induction n with
    | zero =>
      intro h1 R1 ha1 _ hv1 F1
      obtain ⟨xs, x1, x2, x3, x4⟩ := hv1
      refine hX _ ⟨_, _, ha1, rfl, rl_size (P := fun a (v : qkV) => h1 a = some (.inl (.inl (g.2.2.2.1 0, v.1, .inl v.2)))) ⟨xs, x1, x2, x3⟩ ⟨_, nI lim, R1.x, by rw [← hlim]; rfl, fun _ => hk h1 R1 ha1 ⟨xs, x1, x2, x3, x4⟩ F1, fun z => absurd (nI_le (by rw [List.length_take]; omega) (by omega)) z⟩⟩
    | succ n ih =>
      intro h1 R1 ha1 hn hv1 F1
      have hn : lim + (n + 1) ≤ vs.length := by rcases hn with q | q; exact q; omega
      obtain ⟨xs, x1, x2, x3, x4, x5⟩ := hv1
      have hl1 : (vs.take (lim + (n + 1))).length = lim + n + 1 := by rw [List.length_take]; omega
      refine hX _ ⟨_, _, ha1, rfl, rl_size (P := fun a (v : qkV) => h1 a = some (.inl (.inl (g.2.2.2.1 0, v.1, .inl v.2)))) ⟨xs, x1, x2, x3⟩ ⟨_, nI lim, R1.x, by rw [← hlim]; rfl, fun z => absurd z (nI_ge (by rw [hl1]; omega) (by rw [hl1]; omega)), fun _ => ?_⟩⟩
      have hxl : xs.length = lim + n + 1 := by rw [x2.1, hl1]
      refine ⟨_, _, ha1, rfl, _, _, ha1, rfl, rl_size (P := fun a (v : qkV) => h1 a = some (.inl (.inl (g.2.2.2.1 0, v.1, .inl v.2)))) ⟨xs, x1, x2, x3⟩ ?_⟩
      rw [hl1, nI_pred]
      refine ⟨xs, lim + n, xs[lim + n], x1, by omega, rfl, List.getElem?_eq_getElem (by omega), ?_⟩
      have hex : xs.eraseIdx (lim + n) = xs.take (lim + n) := by
        rw [List.eraseIdx_eq_take_drop_succ, List.drop_of_length_le (by omega), List.append_nil]
      rw [hex]
      refine ih _ (R1.other haF haJ) (by rw [qc_up_n hne]; exact ha1) (Or.inl (by omega)) ?_ (F1.tr (qkFx.up rfl))
      have htt : vs.take (lim + n) = (vs.take (lim + (n + 1))).take (lim + n) := by rw [List.take_take, Nat.min_eq_left (by omega)]
      have hmem : ∀ a ∈ xs.take (lim + n), a ∈ xs := fun a ha => List.mem_of_mem_take ha
      refine ⟨xs.take (lim + n), qc_up_s, ?_, by rw [List.length_take]; omega, x4.sublist (List.take_sublist _ _), fun a ha => x5 a (hmem a ha)⟩
      · rw [htt]
        refine (x2.take (lim + n)).mono' fun i a v hi hv => ?_
        have hav := (x2.take (lim + n)).2 i a v hi hv
        rw [qc_up_n (by intro z; rw [z, x1] at hav; cases hav)]
        exact hav
  by_cases hle : vs.length ≤ lim
  · refine key 0 h R han (Or.inr rfl) ?_ qkFx.rf
    rw [List.take_of_length_le (by omega)]
    exact hv
  · refine key (vs.length - lim) h R han (Or.inl (by omega)) ?_ qkFx.rf
    rw [List.take_of_length_le (by omega)]
    exact hv
end
