/-! SP 12: links, the next seat, entries -/
set_option maxRecDepth 100000
/-- a seat: source, own conditions, those sent, rows, scalars -/
abbrev qkSeat : Type := Nat × List qkC × List qkC × List qkRow × (Nat → Int32)
def qkS1 (g : qh_G) (L : Nat → Nat) (J h : qc_H) (se rl : Nat) (v : qkSeat) : Prop := ∃ ol sl : Nat, h se = some (qkSt L v.1 ol sl rl v.2.2.2.2) ∧ v.1 < 6 ∧ qkR (isCond J) J ol v.2.1 ∧ qkR (isCond J) J sl v.2.2.1 ∧ qkR (isRow g J) h rl v.2.2.2.1 ∧ qkF L se
def qkSs (g : qh_G) (L : Nat → Nat) (J h : qc_H) (al n : Nat) (sa rl : Nat → Nat) (ss : Nat → qkSeat) : Prop := n ≤ 3 ∧ (∃ F : Nat → Option Nat, h al = some (.inl (.inl (g.2.2.2.1 7, n, .inr (.inr (.inr (.inr F)))))) ∧ ∀ i, i < n → F i = some (sa i)) ∧ (∀ i, i < n → qkS1 g L J h (sa i) (rl i) (ss i)) ∧ (∀ i j, i < n → j < n → sa i = sa j → i = j)
def kf_taken (ss : Nat → qkSeat) (j : Nat) : Bool := decide (¬ (ss j).2.2.2.2 5 = 0)
def kf_linked (n : Nat) (ss : Nat → qkSeat) (num : Int32) (l : qkC) : Bool := (List.range n).any (fun j => kf_taken ss j && kf_joins l num ((ss j).2.2.2.2 0))
def kf_linkOf (A : qkA) (n : Nat) (ss : Nat → qkSeat) (num : Int32) : Option Nat := (aLink A).findIdx? (kf_linked n ss num)
def kf_sguess (A : qkA) (v : qkSeat) : Int32 := kf_guess (aSr A v.1 5) v.2.2.1.length
def kf_has (A : qkA) (n : Nat) (ss : Nat → qkSeat) (k : Nat) : Bool := (kf_linkOf A n ss ((ss k).2.2.2.2 0)).isSome
def kf_better (A : qkA) (n : Nat) (ss : Nat → qkSeat) (best : Option Nat) (il : Bool) (k : Nat) : Bool := match best with
  | none => true
  | some b => (kf_has A n ss k && !il) || (decide (kf_has A n ss k = il) && decide (¬ kf_sguess A (ss b) ≤ kf_sguess A (ss k)))
def kf_nextS (A : qkA) (n : Nat) (ss : Nat → qkSeat) : Nat → Option Nat × Bool
  | 0 => (none, false)
  | k + 1 => if kf_taken ss k = true then kf_nextS A n ss k else
    if kf_better A n ss (kf_nextS A n ss k).1 (kf_nextS A n ss k).2 k = true then (some k, kf_has A n ss k) else kf_nextS A n ss k
def kf_next (A : qkA) (n : Nat) (ss : Nat → qkSeat) : Option Nat := (kf_nextS A n ss n).1
def kf_last {α : Type} (p : α → Bool) (l : List α) : Nat → Option Nat
  | 0 => none
  | k + 1 => if (l[k]?.map p) = some true then some k else kf_last p l k
def kf_serves (A : qkA) (src : Nat) (sent : List qkC) (fresh : Int32) (e : qkEnt) : Bool := decide (e.1 = src ∧ ¬ fresh < aQ A 15 - e.2.2.2.1) && e.2.1.all (fun cd => sent.any (fun b => kf_follow cd b))
def kf_entry (A : qkA) (src : Nat) (sent : List qkC) (fresh : Int32) : Option Nat := kf_last (kf_serves A src sent fresh) (aCache A) (aCache A).length
theorem kf_nextS_lt {A : qkA} {n : Nat} {ss : Nat → qkSeat} : ∀ {k b : Nat}, (kf_nextS A n ss k).1 = some b → b < k
  | 0, b, h => by cases h
  | k + 1, b, h => by
    rw [kf_nextS] at h
    split at h
    · exact Nat.lt_succ_of_lt (kf_nextS_lt h)
    · split at h
      · cases h
        exact Nat.lt_succ_self _
      · exact Nat.lt_succ_of_lt (kf_nextS_lt h)
section
variable {g : qh_G} {L : Nat → Nat} {J h : qc_H} {A : qkA} {c : Nat}
theorem kt_linkOf {al n i : Nat} {sa rl : Nat → Nat} {ss : Nat → qkSeat} {K : Option Nat → Prop} (R : qkRep g L J h A) (S : qkSs g L J h al n sa rl ss) (hi : i < n) (hk : ∀ r : Option Nat, (kf_linkOf A n ss ((ss i).2.2.2.2 0) = none → r = none) → (∀ k l, kf_linkOf A n ss ((ss i).2.2.2.2 0) = some k → (aLink A)[k]? = some l → ∃ p, r = some p ∧ isLink J p l) → K r) : T_X1_linkOf g (L 0) (sa i) al h K := by
  unfold T_X1_linkOf
  obtain ⟨hn, ⟨F, hF, hF2⟩, hs, hinj⟩ := S
  intro X hX
  have hlen := R.links.choose_spec.2.2
  obtain ⟨oli, sli, si1, -⟩ := hs i hi
  have key : ∀ m k, k + m = (aLink A).length → (∀ j v, j < k → (aLink A)[j]? = some v → kf_linked n ss ((ss i).2.2.2.2 0) v = false) → X (nI k) := by
    intro m
    induction m with
    | zero =>
      intro k hkm hb
      refine hX _ ⟨_, _, R.x, rfl, rl_size R.links ⟨fun _ => hk none (fun _ => rfl) (fun k' l h1 h2 => ?_), fun z => absurd (nI_le (by omega) (by omega)) z⟩⟩
      exfalso
      unfold kf_linkOf at h1
      rw [List.findIdx?_eq_some_iff_getElem] at h1
      obtain ⟨q1, q2, -⟩ := h1
      have := hb k' _ (by omega) (List.getElem?_eq_getElem q1)
      rw [this] at q2
      cases q2
    | succ m ih =>
      intro k hkm hb
      have hk' : k < (aLink A).length := by omega
      refine hX _ ⟨_, _, R.x, rfl, rl_size R.links ⟨fun z => absurd z (nI_ge (by omega) (by omega)), fun _ => ?_⟩⟩
      refine ⟨_, _, R.x, rfl, rl_get R.links rfl (List.getElem?_eq_getElem hk') fun p hp => ?_⟩
      have p1 : J p = some (.inl (.inr (10, [.int (aLink A)[k].1, .int (aLink A)[k].2.1, .int (aLink A)[k].2.2.1, .int (aLink A)[k].2.2.2]))) := hp
      refine ⟨⟨_, R.jh _ _ p1⟩, _, hF, fun X9 hX9 => ?_⟩
      have key2 : ∀ m q, q + m = n → (∀ j, j < q → (kf_taken ss j && kf_joins (aLink A)[k] ((ss i).2.2.2.2 0) ((ss j).2.2.2.2 0)) = false) → X9 (nI q) := by
        intro m
        induction m with
        | zero =>
          intro q hqm hbq
          refine hX9 _ ⟨fun _ => ?_, fun z => absurd (nI_le (show n ≤ q by omega) (by omega)) z⟩
          rw [nI_1]
          refine ih (k + 1) (by omega) fun j v hj hv => ?_
          by_cases e : j = k
          · subst e
            rw [List.getElem?_eq_getElem hk'] at hv
            cases hv
            unfold kf_linked
            rw [List.any_eq_false]
            intro j' hj'
            rw [hbq j' (by have := List.mem_range.mp hj'; omega)]
            decide
          · exact hb j v (by omega) hv
        | succ m ih2 =>
          intro q hqm hbq
          have hqn : q < n := by omega
          obtain ⟨ol, sl, s1, -⟩ := hs q hqn
          refine hX9 _ ⟨fun z => absurd z (nI_ge hqn (by omega)), fun _ => ⟨_, _, sa q, hF, vp_in_nI hqn (by omega), by rw [nI_clamp (by omega)]; exact hF2 q hqn, _, (ss q).2.2.2.2 5, s1, rfl, fun z => ?_, fun z => ?_⟩⟩
          · rw [nI_1]
            refine ih2 (q + 1) (by omega) fun j hj => ?_
            by_cases e : j = q
            · subst e
              simp [kf_taken, z]
            · exact hbq j (by omega)
          · refine ⟨_, (ss i).2.2.2.2 0, si1, rfl, _, (ss q).2.2.2.2 0, s1, rfl, ⟨_, R.jh _ _ p1⟩, kt_joins R.jh hp ⟨fun z1 => ?_, fun z1 => ?_⟩⟩
            · rw [nI_1]
              refine ih2 (q + 1) (by omega) fun j hj => ?_
              by_cases e : j = q
              · subst e
                rw [b2_eq0.mp z1, Bool.and_false]
              · exact hbq j (by omega)
            · have hl : kf_linked n ss ((ss i).2.2.2.2 0) (aLink A)[k] = true := by
                unfold kf_linked
                rw [List.any_eq_true]
                exact ⟨q, List.mem_range.mpr hqn, by rw [b2_n0.mp z1]; simp [kf_taken, z]⟩
              have hfi : kf_linkOf A n ss ((ss i).2.2.2.2 0) = some k := by
                unfold kf_linkOf
                rw [List.findIdx?_eq_some_iff_getElem]
                exact ⟨hk', hl, fun j hj => by rw [hb j _ hj (List.getElem?_eq_getElem (by omega))]; decide⟩
              refine hk (some p) (fun e => by rw [hfi] at e; cases e) (fun k' l e1 e2 => ?_)
              rw [hfi] at e1
              cases e1
              rw [List.getElem?_eq_getElem hk'] at e2
              cases e2
              exact ⟨p, rfl, hp⟩
      exact key2 n 0 (by omega) (fun j hj => absurd hj (Nat.not_lt_zero j))
  exact key (aLink A).length 0 (by omega) (fun j v hj => absurd hj (Nat.not_lt_zero j))
theorem kt_entryFor {se rl ol sl : Nat} {src : Nat} {sent : List qkC} {sv : Nat → Int32} {fresh : Int32} {K : Option Nat → Prop} (R : qkRep g L J h A) (hse : h se = some (qkSt L src ol sl rl sv)) (hsrc : src < 6) (hsl : qkR (isCond J) J sl sent) (hk : ∀ r : Option Nat, (kf_entry A src sent fresh = none → r = none) → (∀ k e, kf_entry A src sent fresh = some k → (aCache A)[k]? = some e → ∃ p, r = some p ∧ isEnt g L J p e) → K r) : T_X1_entryFor g (L 0) se fresh h K := by
  unfold T_X1_entryFor
  intro X hX
  have hlen := R.cache.choose_spec.2.2
  have key : ∀ m k x2, k + m = (aCache A).length → (kf_last (kf_serves A src sent fresh) (aCache A) k = none → x2 = none) → (∀ i e, kf_last (kf_serves A src sent fresh) (aCache A) k = some i → (aCache A)[i]? = some e → ∃ p, x2 = some p ∧ isEnt g L J p e) → X x2 (nI k) := by
    intro m
    induction m with
    | zero =>
      intro k x2 hkm h1 h2
      have e : k = (aCache A).length := by omega
      subst e
      refine hX _ _ ⟨_, _, R.x, rfl, rl_size R.cache ⟨fun _ => hk x2 h1 h2, fun z => absurd (nI_le (by omega) (by omega)) z⟩⟩
    | succ m ih =>
      intro k x2 hkm h1 h2
      have hk' : k < (aCache A).length := by omega
      refine hX _ _ ⟨_, _, R.x, rfl, rl_size R.cache ⟨fun z => absurd z (nI_ge (by omega) (by omega)), fun _ => ?_⟩⟩
      refine ⟨_, _, R.x, rfl, rl_get R.cache rfl (List.getElem?_eq_getElem hk') fun p hp => ?_⟩
      have hp0 := hp
      obtain ⟨cl, rle, y0, y1, y2, y3⟩ := hp
      have y1' := R.jh _ _ y1
      have hlc := y2.choose_spec.2.2
      refine ⟨⟨_, y1'⟩, _, _, y1', rfl, _, _, hse, rfl, fun J15 hJ15 => ?_⟩
      generalize hE : (aCache A)[k] = E at y0 y1 y2 y3 y1' hp0 hlc ⊢
      have main : J15 (b2 (decide (E.1 = src ∧ ¬ fresh < aQ A 15 - E.2.2.2.1))) := by
        refine hJ15 _ fun X17 hX17 => ?_
        have key2 : ∀ m q, q + m = E.2.1.length → X17 (b2 (decide (E.1 = src ∧ ¬ fresh < aQ A 15 - E.2.2.2.1) && (E.2.1.take q).all (fun cd => sent.any (fun b => kf_follow cd b)))) (nI q) := by
          intro m
          induction m with
          | zero =>
            intro q hqm
            have e : (E.2.1.take q) = E.2.1 := List.take_of_length_le (by omega)
            rw [e]
            refine hX17 _ _ ⟨_, _, y1', rfl, rl_size (y2.mono (fun e z => R.jh _ _ z) (fun _ _ z => z)) ⟨fun _ J24 hJ24 => ?_, fun z => absurd (nI_le (by omega) (by omega)) z⟩⟩
            have hsv : (decide (E.1 = src ∧ ¬ fresh < aQ A 15 - E.2.2.2.1) && E.2.1.all (fun cd => sent.any (fun b => kf_follow cd b))) = kf_serves A src sent fresh E := rfl
            rw [hsv]
            refine ⟨fun z => hJ24 _ ?_, fun z => hJ24 _ ?_⟩
            · rw [nI_1]
              have hl : kf_last (kf_serves A src sent fresh) (aCache A) (k + 1) = kf_last (kf_serves A src sent fresh) (aCache A) k := by
                rw [kf_last, if_neg]
                rw [List.getElem?_eq_getElem hk', hE]
                simp [b2_eq0.mp z]
              exact ih (k + 1) x2 (by omega) (by rw [hl]; exact h1) (by rw [hl]; exact h2)
            · rw [nI_1]
              have hl : kf_last (kf_serves A src sent fresh) (aCache A) (k + 1) = some k := by
                rw [kf_last, if_pos]
                rw [List.getElem?_eq_getElem hk', hE]
                simp [b2_n0.mp z]
              refine ih (k + 1) (some p) (by omega) (by rw [hl]; intro z; cases z) (fun i e q1 q2 => ?_)
              rw [hl] at q1
              cases q1
              rw [List.getElem?_eq_getElem hk', hE] at q2
              cases q2
              exact ⟨p, rfl, hp0⟩
          | succ m ih2 =>
            intro q hqm
            have hq' : q < E.2.1.length := by omega
            refine hX17 _ _ ⟨_, _, y1', rfl, rl_size (y2.mono (fun e z => R.jh _ _ z) (fun _ _ z => z)) ⟨fun z => absurd z (nI_ge (by omega) (by omega)), fun _ => ?_⟩⟩
            refine ⟨_, _, y1', rfl, rl_get (y2.mono (fun e z => R.jh _ _ z) (fun _ _ z => z)) rfl (List.getElem?_eq_getElem hq') fun y hy => ?_⟩
            refine ⟨⟨_, R.jh _ _ hy⟩, _, _, hse, rfl, kt_follows R.jh hy (hsl.mono (fun e z => R.jh _ _ z) (fun _ _ z => z)) ?_⟩
            rw [b2_and, nI_1, Bool.and_assoc, ← all_snoc (p := fun cd => sent.any (fun b => kf_follow cd b)) hq']
            exact ih2 (q + 1) (by omega)
        have h0 := key2 E.2.1.length 0 (by omega)
        rw [List.take_zero, List.all_nil, Bool.and_true] at h0
        exact h0
      refine ⟨fun z => ?_, fun z => ⟨_, aQ A 15, R.x, rfl, _, E.2.2.2.1, y1', rfl, fun z2 => ?_, fun z2 => ?_⟩⟩
      · have : ¬ E.1 = src := fun e => z (by rw [e])
        rw [b2_f (decide_eq_false (fun q => this q.1))] at main
        exact main
      · rw [b2_f (decide_eq_false (fun q => q.2 z2))] at main
        exact main
      · have e1 : E.1 = src := by
          have := R.inj _ _ (by omega) (by omega) (Option.some.inj z)
          omega
        rw [b2_t (decide_eq_true ⟨e1, z2⟩)] at main
        exact main
  exact key (aCache A).length 0 none (by omega) (fun _ => rfl) (fun i e z => by cases z)
end
