/-! SQ 14: which seat is next; its link; the entry that serves it -/
set_option maxRecDepth 100000
/-- seats of a question, as they stand on both sides -/
def cSt (A : qkA) (n : Nat) (ss : Nat → qkSeat) : Prop := ∀ i, i < n → (aSeat A)[i]? = some (nI (ss i).1) ∧ (ss i).1 < 6 ∧ (ss i).2.1 = kf_own A (nI i) ∧ (ss i).2.2.1 = kf_sent A (nI i) (ss i).1 ∧ (ss i).2.2.2.2 0 = nI i
def cTk (S : qm_S) (n : Nat) (ss : Nat → qkSeat) : Prop := ∀ i, i < n → S.2 56 i = b2 (kf_taken ss i)
def kf_on (o : Option Nat) : Int32 := match o with
  | some k => nI k
  | none => -1
theorem sub1 (a : Int32) : a - 1 = a + (-1) := Int32.sub_eq_add_neg a 1
theorem lk_iff {A : qkA} {n i a b : Nat} {ss : Nat → qkSeat} {l : qkC} (h : cSt A n ss) (hi : i < n) (hn : n ≤ 3) (hab : a < b) (hb : b < n) (e1 : l.1 = nI a) (e2 : l.2.2.1 = nI b) : kf_linked n ss (nI i) l = ((decide (a = i) && kf_taken ss b) || (decide (b = i) && kf_taken ss a)) := by
  unfold kf_linked
  rw [Bool.eq_iff_iff, List.any_eq_true, Bool.or_eq_true, Bool.and_eq_true, Bool.and_eq_true, decide_eq_true_eq, decide_eq_true_eq]
  have jn : ∀ j, j < n → (kf_joins l (nI i) ((ss j).2.2.2.2 0) = true ↔ ((a = i ∧ b = j) ∨ (a = j ∧ b = i))) := by
    intro j hj
    unfold kf_joins
    rw [(h j hj).2.2.2.2, e1, e2, Bool.or_eq_true, decide_eq_true_eq, decide_eq_true_eq, nI_eq (by omega) (by omega), nI_eq (by omega) (by omega), nI_eq (by omega) (by omega), nI_eq (by omega) (by omega)]
  constructor
  · rintro ⟨j, hj, hx⟩
    rw [List.mem_range] at hj
    rw [Bool.and_eq_true, jn j hj] at hx
    rcases hx.2 with ⟨p, q⟩ | ⟨p, q⟩
    · rw [q]; exact Or.inl ⟨p, hx.1⟩
    · rw [p]; exact Or.inr ⟨q, hx.1⟩
  · rintro (⟨p, q⟩ | ⟨p, q⟩)
    · exact ⟨b, List.mem_range.mpr hb, by rw [Bool.and_eq_true, jn b hb]; exact ⟨q, Or.inl ⟨p, rfl⟩⟩⟩
    · exact ⟨a, List.mem_range.mpr (by omega), by rw [Bool.and_eq_true, jn a (by omega)]; exact ⟨q, Or.inr ⟨rfl, p⟩⟩⟩
theorem km_linkOf {A : qkA} {S : qm_S} {n i : Nat} {ss : Nat → qkSeat} {K : Int32 → Prop} (hD : cD A S) (hi : iD A) (hn : (aSeat A).length = n) (hst : cSt A n ss) (htk : cTk S n ss) (hin : i < n) (hk : K (kf_on (kf_linkOf A n ss (nI i)))) : T_X8_linkOf (nI i) S K := by
  have hn3 : n ≤ 3 := by rw [← hn]; exact hi.1.1
  have hl3 := hi.2.1.1
  unfold T_X8_linkOf
  intro X hX
  rw [hD.2.1.1, sub1]
  refine lpd (P := fun k (x : Int32) => X x (nI k + (-1))) (fun k x => k ≤ (aLink A).length ∧ x = (match ((aLink A).drop k).findIdx? (kf_linked n ss (nI i)) with | some j => nI (k + j) | none => -1)) (fun k x hI ih => ?_) (aLink A).length (-1) ⟨Nat.le_refl _, by rw [List.drop_length]; rfl⟩
  obtain ⟨hkl, hx⟩ := hI
  refine hX _ _ ?_
  cases k with
  | zero =>
    refine ⟨fun _ => ?_, fun z => absurd (by decide : (nI 0 + (-1) : Int32) < 0) z⟩
    rw [List.drop_zero] at hx
    have : x = kf_on (kf_linkOf A n ss (nI i)) := by
      rw [hx]
      unfold kf_linkOf kf_on
      cases (aLink A).findIdx? (kf_linked n ss (nI i)) with
      | none => rfl
      | some j => simp
    rw [this]
    exact hk
  | succ m =>
    have ih := fun s' => ih m s' rfl
    rw [pk_m1]
    refine ⟨fun z => absurd z (nI_pos (by omega)), fun _ => ?_⟩
    have hg : (aLink A)[m]? = some ((aLink A)[m]'(by omega)) := List.getElem?_eq_getElem (by omega)
    obtain ⟨⟨a, b, hab, hb, e1, e2⟩, _⟩ := hi.2.1.2 _ (List.getElem_mem (show m < (aLink A).length by omega))
    obtain ⟨c1, _, c3, _⟩ := hD.2.1.2 m _ hg
    have hlk := lk_iff hst hin hn3 hab (by omega) e1 e2
    have hdr : (aLink A).drop m = (aLink A)[m]'(by omega) :: (aLink A).drop (m + 1) := List.drop_eq_getElem_cons (by omega)
    generalize (aLink A)[m]'(show m < (aLink A).length by omega) = l at hg e1 e2 c1 c3 hlk hdr
    have yes : kf_linked n ss (nI i) l = true → X (nI m) (nI m + (-1)) := fun q => ih _ ⟨by omega, by rw [hdr, List.findIdx?_cons, q]; rfl⟩
    have no : kf_linked n ss (nI i) l = false → X x (nI m + (-1)) := fun q => ih _ ⟨by omega, by
      rw [hdr, List.findIdx?_cons, q, hx]
      cases ((aLink A).drop (m + 1)).findIdx? (kf_linked n ss (nI i)) with
      | none => rfl
      | some j =>
        show nI (m + 1 + j) = nI (m + (j + 1))
        congr 1
        omega⟩
    rw [nI_clamp (n := m) (by omega), c1, c3, e1, e2, nI_clamp (n := a) (by omega), nI_clamp (n := b) (by omega), htk a (by omega), htk b (by omega)]
    have ea : (nI a = nI i) ↔ a = i := nI_eq (by omega) (by omega)
    have eb : (nI b = nI i) ↔ b = i := nI_eq (by omega) (by omega)
    refine ⟨pk_in m 3 (by omega), ⟨fun _ => ⟨pk_in m 3 (by omega), fun _ => trivial, fun _ => pk_in a 3 (by omega)⟩, fun _ => ⟨pk_in m 3 (by omega), pk_in b 3 (by omega), fun _ => trivial, fun _ => ⟨fun _ => trivial, fun _ => pk_in a 3 (by omega)⟩⟩⟩, ?_⟩
    rw [hlk] at yes no
    by_cases p : a = i
    · have nb : ¬ b = i := by omega
      rw [if_pos (ea.mpr p), if_neg (fun z => nb (eb.mp z))]
      rw [decide_eq_true p, decide_eq_false nb, Bool.true_and, Bool.false_and, Bool.or_false] at yes no
      cases ht : kf_taken ss b with
      | true => exact ⟨fun z => absurd z (by decide), fun _ => yes ht⟩
      | false => exact ⟨fun _ => no ht, fun z => absurd rfl z⟩
    · rw [if_neg (fun z => p (ea.mp z))]
      rw [decide_eq_false p, Bool.false_and, Bool.false_or] at yes no
      by_cases q : b = i
      · rw [if_pos (eb.mpr q)]
        rw [decide_eq_true q, Bool.true_and] at yes no
        cases ht : kf_taken ss a with
        | true => exact ⟨fun z => absurd z (by decide), fun _ => yes ht⟩
        | false => exact ⟨fun _ => no ht, fun z => absurd rfl z⟩
      · rw [if_neg (fun z => q (eb.mp z))]
        rw [decide_eq_false q, Bool.false_and] at no
        exact ⟨fun _ => no rfl, fun z => absurd rfl z⟩
theorem on_none {o : Option Nat} (h : ∀ k, o = some k → k < 2 ^ 31) : kf_on o = -1 ↔ o = none := by
  cases o with
  | none => exact ⟨fun _ => rfl, fun _ => rfl⟩
  | some k => exact ⟨fun z => absurd z (nI_nm1 (h k rfl)), fun z => by cases z⟩
theorem link_lt {A : qkA} {n k : Nat} {ss : Nat → qkSeat} {num : Int32} (h : kf_linkOf A n ss num = some k) : k < (aLink A).length := by
  unfold kf_linkOf at h
  rw [List.findIdx?_eq_some_iff_getElem] at h
  exact h.1
theorem nextS_lt {A : qkA} {n : Nat} {ss : Nat → qkSeat} : ∀ {k b : Nat}, (kf_nextS A n ss k).1 = some b → b < k := by
  intro k
  induction k with
  | zero => intro b h; cases h
  | succ k ih =>
    intro b h
    have hs : kf_nextS A n ss (k + 1) = if kf_taken ss k = true then kf_nextS A n ss k else if kf_better A n ss (kf_nextS A n ss k).1 (kf_nextS A n ss k).2 k = true then (some k, kf_has A n ss k) else kf_nextS A n ss k := rfl
    rw [hs] at h
    by_cases c : kf_taken ss k = true
    · rw [if_pos c] at h
      have := ih h
      omega
    · rw [if_neg c] at h
      by_cases c2 : kf_better A n ss (kf_nextS A n ss k).1 (kf_nextS A n ss k).2 k = true
      · rw [if_pos c2] at h
        cases h
        omega
      · rw [if_neg c2] at h
        have := ih h
        omega
theorem nextS_il {A : qkA} {n : Nat} {ss : Nat → qkSeat} : ∀ {k : Nat}, (kf_nextS A n ss k).1 = none → (kf_nextS A n ss k).2 = false := by
  intro k
  induction k with
  | zero => intro _; rfl
  | succ k ih =>
    intro h
    have hs : kf_nextS A n ss (k + 1) = if kf_taken ss k = true then kf_nextS A n ss k else if kf_better A n ss (kf_nextS A n ss k).1 (kf_nextS A n ss k).2 k = true then (some k, kf_has A n ss k) else kf_nextS A n ss k := rfl
    rw [hs] at h ⊢
    by_cases c : kf_taken ss k = true
    · rw [if_pos c] at h ⊢
      exact ih h
    · rw [if_neg c] at h ⊢
      by_cases c2 : kf_better A n ss (kf_nextS A n ss k).1 (kf_nextS A n ss k).2 k = true
      · rw [if_pos c2] at h
        cases h
      · rw [if_neg c2] at h ⊢
        exact ih h
theorem km_nextSeat {A : qkA} {S : qm_S} {n : Nat} {ss : Nat → qkSeat} {K : Int32 → Prop} (hD : cD A S) (hS : cS A S) (hi : iD A) (hR : iR A) (hn : (aSeat A).length = n) (hst : cSt A n ss) (htk : cTk S n ss) (hk : K (kf_on (kf_next A n ss))) : T_X8_nextSeat S K := by
  have hn3 : n ≤ 3 := by rw [← hn]; exact hi.1.1
  have gs : ∀ {i : Nat} {K : Int32 → Prop}, i < n → K (kf_sguess A (ss i)) → T_X8_guess (nI i) S K := by
    intro i K hin hk
    obtain ⟨h1, h2, _, h4, _⟩ := hst i hin
    refine km_guess hD hi h1 h2 (hS _ h2).2.2.2 (hR _ h2).2.2.2 ?_
    unfold kf_sguess at hk
    rw [h4] at hk
    exact hk
  unfold T_X8_nextSeat
  intro X hX
  refine lp (P := fun k (p : Int32 × Int32) => X p.1 p.2 (nI k)) n (fun k p => p.1 = kf_on (kf_nextS A n ss k).1 ∧ p.2 = b2 (kf_nextS A n ss k).2) (fun k p hkn hI ih => ?_) 0 ((-1), 0) (Nat.zero_le _) ⟨rfl, rfl⟩
  obtain ⟨x, y⟩ := p
  obtain ⟨h1, h2⟩ := hI
  dsimp only at h1 h2 ⊢
  subst h1 h2
  refine hX _ _ _ ?_
  rw [hD.1.1, hn]
  refine pk_le n k (fun z => ?_) (fun z => ?_)
  · obtain rfl : k = n := by omega
    exact hk
  · rw [nI_clamp (n := k) (by omega), htk k z, nI_1]
    have hs : kf_nextS A n ss (k + 1) = if kf_taken ss k = true then kf_nextS A n ss k else if kf_better A n ss (kf_nextS A n ss k).1 (kf_nextS A n ss k).2 k = true then (some k, kf_has A n ss k) else kf_nextS A n ss k := rfl
    refine ⟨pk_in k 3 (by omega), bn (fun q => ?_) (fun q => ?_)⟩
    · refine ih z (_, _) ?_
      rw [hs, if_pos q]
      exact ⟨rfl, rfl⟩
    · refine km_linkOf hD hi hn hst htk z ?_
      have hhas : kf_has A n ss k = (kf_linkOf A n ss (nI k)).isSome := by
        unfold kf_has
        rw [(hst k z).2.2.2.2]
      have hits : (if kf_on (kf_linkOf A n ss (nI k)) = -1 then (0 : Int32) else 1) = b2 (kf_has A n ss k) := by
        rw [hhas]
        cases hl : kf_linkOf A n ss (nI k) with
        | none => rfl
        | some j =>
          have := link_lt hl
          have hl3 := hi.2.1.1
          rw [if_neg]
          · rfl
          · exact nI_nm1 (by omega)
      rw [hits]
      rw [if_neg (by rw [q]; decide)] at hs
      have ih := ih z
      rw [hs] at ih
      have hlt : ∀ b, (kf_nextS A n ss k).1 = some b → b < k := fun b hb => nextS_lt hb
      have hil : (kf_nextS A n ss k).1 = none → (kf_nextS A n ss k).2 = false := nextS_il
      have hbt : ∀ b il, kf_better A n ss (some b) il k = ((kf_has A n ss k && !il) || (decide (kf_has A n ss k = il) && decide (¬ kf_sguess A (ss b) ≤ kf_sguess A (ss k)))) := fun _ _ => rfl
      generalize kf_nextS A n ss k = N at ih hlt hil ⊢
      obtain ⟨best, il⟩ := N
      generalize kf_has A n ss k = has at ih hbt ⊢
      dsimp only at ih hlt hil ⊢
      intro J hJ
      -- better or not
      have fin : ∀ bt : Bool, kf_better A n ss best il k = bt → (bt = false → (has && !il) = false) → (bt = true → (il || has) = has) → J (b2 bt) := by
        intro bt hb g1 g2
        rw [hb] at ih
        refine hJ _ ?_
        cases bt with
        | true =>
          have e1 : (if b2 true = 0 then kf_on best else nI k) = nI k := rfl
          rw [e1]
          rw [if_pos rfl] at ih
          have g2 := g2 rfl
          refine bn (fun w => ?_) (fun w => bz (fun w' => ?_) (fun w' => ?_))
          · rw [w, Bool.true_or] at g2
            exact ih (_, _) ⟨rfl, by rw [← g2]; rfl⟩
          · exact ih (_, _) ⟨rfl, by rw [w']; rfl⟩
          · exact ih (_, _) ⟨rfl, by rw [w']; rfl⟩
        | false =>
          have e1 : (if b2 false = 0 then kf_on best else nI k) = kf_on best := rfl
          rw [e1]
          rw [if_neg (by decide)] at ih
          have g1 := g1 rfl
          refine bn (fun w => ?_) (fun w => bz (fun w' => ?_) (fun w' => ?_))
          · exact ih (_, _) ⟨rfl, by rw [w]; rfl⟩
          · exact ih (_, _) ⟨rfl, by rw [w]; rfl⟩
          · rw [w, w'] at g1
            exact absurd g1 (by decide)
      cases best with
      | none =>
        have e1 : kf_on none = -1 := rfl
        rw [e1]
        refine ⟨fun _ => fin true rfl (fun w => by cases w) (fun _ => ?_), fun w => absurd rfl w⟩
        rw [hil rfl, Bool.false_or]
      | some b =>
        have hb := hlt b rfl
        have e1 : kf_on (some b) = nI b := rfl
        rw [e1]
        rw [hbt b il] at fin
        have cmp : has = il → T_X8_guess (nI k) S (fun r15 => T_X8_guess (nI b) S (fun r17 => (r17 ≤ r15 → J 0) ∧ (¬ r17 ≤ r15 → J 1))) := by
          intro he
          refine gs z (gs (by omega) ⟨fun w => ?_, fun w => ?_⟩)
          · refine fin false ?_ (fun _ => ?_) (fun w => by cases w)
            · have e := decide_eq_false (p := ¬ kf_sguess A (ss b) ≤ kf_sguess A (ss k)) (fun w' => w' w)
              rw [he, e]
              cases il <;> rfl
            · rw [he]; cases il <;> rfl
          · refine fin true ?_ (fun w => by cases w) (fun _ => ?_)
            · have e := decide_eq_true (p := ¬ kf_sguess A (ss b) ≤ kf_sguess A (ss k)) w
              rw [he, e]
              cases il <;> rfl
            · rw [he]; cases il <;> rfl
        refine ⟨fun w => absurd w (nI_nm1 (by omega)), fun _ => bz (fun w => ⟨fun w' => ?_, fun w' => cmp ?_⟩) (fun w => bz (fun w' => ?_) (fun w' => ⟨fun w'' => ?_, fun w'' => cmp ?_⟩))⟩
        · have : il = true := by
            cases il with
            | true => rfl
            | false => rw [w] at w'; exact absurd rfl w'
          subst w this
          exact fin false rfl (fun _ => rfl) (fun w => by cases w)
        · cases il with
          | false => exact w
          | true => rw [w] at w'; exact absurd w' (by decide)
        · subst w w'
          exact fin true rfl (fun w => by cases w) (fun _ => rfl)
        · subst w w'
          exact absurd rfl w''
        · rw [w, w']
