/-! SP 8: conditions, links; what a seat's requests bring -/
set_option maxRecDepth 100000
def kf_holdv (kind n v : Int32) : Bool := if kind = 0 then decide (v = n) else if kind = 1 then kf_num v && decide (¬ n ≤ v) else if kind = 2 then kf_num v && decide (¬ v ≤ n) else if kind = 3 then decide (v = 5000) else decide (v = 5001)
def kf_hold (cd : qkC) (r : qkRow) : Bool := kf_holdv cd.2.2.1 cd.2.2.2 (r.2 cd.2.1.toNatClampNeg)
def kf_all (cs : List qkC) (r : qkRow) : Bool := cs.all (fun cd => kf_hold cd r)
def kf_same (a b : qkC) : Bool := decide (a.2.2.1 = b.2.2.1 ∧ a.2.2.2 = b.2.2.2)
def kf_less (a b : qkC) : Bool := decide (a.2.2.1 = 1) && (decide (b.2.2.1 = 1 ∧ b.2.2.2 ≤ a.2.2.2) || decide (b.2.2.1 = 0 ∧ ¬ a.2.2.2 ≤ b.2.2.2))
def kf_more (a b : qkC) : Bool := decide (a.2.2.1 = 2) && (decide (b.2.2.1 = 2 ∧ a.2.2.2 ≤ b.2.2.2) || decide (b.2.2.1 = 0 ∧ ¬ b.2.2.2 ≤ a.2.2.2))
def kf_follow (a b : qkC) : Bool := decide (a.2.1 = b.2.1) && (kf_same a b || kf_less a b || kf_more a b)
/-- a condition's column is one of four -/
def qkOk (cd : qkC) : Prop := ∃ j, j < 4 ∧ cd.2.1 = nI j
def kf_guess (size : Int32) (n : Nat) : Int32 := if 1 < size >>> (nI n &&& 31) then size >>> (nI n &&& 31) else 1
def kf_joins (l : qkC) (a b : Int32) : Bool := decide (l.1 = a ∧ l.2.2.1 = b) || decide (l.1 = b ∧ l.2.2.1 = a)
def kf_colOf (l : qkC) (a : Int32) : Int32 := if a = l.1 then l.2.1 else l.2.2.2
def kf_lholds (l : qkC) (r q : qkRow) : Bool := kf_num (r.2 l.2.1.toNatClampNeg) && decide (r.2 l.2.1.toNatClampNeg = q.2 l.2.2.2.toNatClampNeg)
abbrev qkSt (L : Nat → Nat) (src ol sl rl : Nat) (f : Nat → Int32) : qc_E := .inl (.inr (13, [.int (f 0), .ref (L (16 + src)), .ref ol, .ref sl, .ref rl, .int (f 5), .int (f 6), .int (f 7), .int (f 8), .int (f 9), .ref (L 0)]))
theorem b2_and {a b : Bool} : b2 a &&& b2 b = b2 (a && b) := by cases a <;> cases b <;> decide
theorem b2_or {a b : Bool} : b2 a ||| b2 b = b2 (a || b) := by cases a <;> cases b <;> decide
theorem all_snoc {α : Type} {p : α → Bool} {l : List α} {k : Nat} (hk : k < l.length) : (l.take (k + 1)).all p = ((l.take k).all p && p l[k]) := by
  rw [List.take_succ_eq_append_getElem hk, List.all_append]
  simp
theorem any_snoc {α : Type} {p : α → Bool} {l : List α} {k : Nat} (hk : k < l.length) : (l.take (k + 1)).any p = ((l.take k).any p || p l[k]) := by
  rw [List.take_succ_eq_append_getElem hk, List.any_append]
  simp
section
variable {g : qh_G} {L : Nat → Nat} {J h : qc_H} {A : qkA} {c : Nat}
theorem kt_holdsFor {p q : Nat} {cd : qkC} {r : qkRow} {K : Int32 → Prop} (hJ : qkJ J h) (hcd : isCond J p cd) (hr : isRow g J q r) (hok : qkOk cd) (hk : K (b2 (kf_hold cd r))) : T_X12_holdsFor g p q h K := by
  unfold T_X12_holdsFor
  obtain ⟨ca, r1, r2⟩ := hr
  obtain ⟨j, hj, hjc⟩ := hok
  have c1 : h p = some (.inl (.inr (11, [.int cd.1, .int cd.2.1, .int cd.2.2.1, .int cd.2.2.2]))) := hJ _ _ hcd
  refine ⟨_, _, hJ _ _ r1, rfl, _, cd.2.1, c1, rfl, 4, r.2, hJ _ _ r2, by rw [hjc]; exact vp_in_nI hj (by decide), _, cd.2.2.1, c1, rfl, ?_⟩
  unfold kf_hold at hk
  generalize r.2 cd.2.1.toNatClampNeg = v at hk ⊢
  generalize hkind : cd.2.2.1 = kd at hk ⊢
  unfold kf_holdv at hk
  refine ⟨fun z => ⟨_, cd.2.2.2, c1, rfl, fun z1 => ?_, fun z1 => ?_⟩, fun z => kt_isNumber ⟨fun z1 => ?_, fun z1 => ⟨_, cd.2.2.2, c1, rfl, fun z2 => ?_, fun z2 => ?_⟩⟩, fun z => kt_isNumber ⟨fun z1 => ?_, fun z1 => ⟨_, cd.2.2.2, c1, rfl, fun z2 => ?_, fun z2 => ?_⟩⟩, fun z => ⟨fun z1 => ?_, fun z1 => ?_⟩, fun z0 z1 z2 z3 => ⟨fun z4 => ?_, fun z4 => ?_⟩⟩
  · simpa [z, z1, b2] using hk
  · simpa [z, z1, b2] using hk
  · simpa [z, b2_eq0.mp z1, b2] using hk
  · simpa [z, b2_n0.mp z1, z2, b2] using hk
  · simpa [z, b2_n0.mp z1, z2, b2] using hk
  · simpa [z, b2_eq0.mp z1, b2] using hk
  · simpa [z, b2_n0.mp z1, z2, b2] using hk
  · simpa [z, b2_n0.mp z1, z2, b2] using hk
  · simpa [z, z1, b2] using hk
  · simpa [z, z1, b2] using hk
  · simpa [z0, z1, z2, z3, z4, b2] using hk
  · simpa [z0, z1, z2, z3, z4, b2] using hk
theorem kt_holdAll {p q : Nat} {cs : List qkC} {r : qkRow} {K : Int32 → Prop} (hJ : qkJ J h) (hcs : qkR (isCond J) h p cs) (hr : isRow g J q r) (hok : ∀ cd ∈ cs, qkOk cd) (hk : K (b2 (kf_all cs r))) : T_X1_holdAll g p q h K := by
  unfold T_X1_holdAll
  intro X hX
  have hlen := hcs.choose_spec.2.2
  have key : ∀ n k, k + n = cs.length → X (b2 ((cs.take k).all (fun cd => kf_hold cd r))) (nI k) := by
    intro n
    induction n with
    | zero =>
      intro k hkn
      refine hX _ _ (rl_size hcs ⟨fun _ => ⟨b2_z, ?_⟩, fun z => absurd (nI_le (by omega) (by omega)) z⟩)
      rw [List.take_of_length_le (by omega)]
      exact hk
    | succ n ih =>
      intro k hkn
      have hk' : k < cs.length := by omega
      refine hX _ _ (rl_size hcs ⟨fun z => absurd z (nI_ge (by omega) (by omega)), fun _ => rl_get hcs rfl (List.getElem?_eq_getElem hk') fun y hy => ?_⟩)
      have y1 : h y = some (.inl (.inr (11, [.int cs[k].1, .int cs[k].2.1, .int cs[k].2.2.1, .int cs[k].2.2.2]))) := hJ _ _ hy
      refine ⟨⟨_, y1⟩, ⟨_, y1⟩, kt_holdsFor hJ hy hr (hok _ (List.getElem_mem hk')) ?_⟩
      rw [b2_and, nI_1, ← all_snoc (p := fun cd => kf_hold cd r) hk']
      exact ih (k + 1) (by omega)
  exact key cs.length 0 (by omega)
theorem kt_followsFrom {p q : Nat} {a b : qkC} {K : Int32 → Prop} (hJ : qkJ J h) (ha : isCond J p a) (hb : isCond J q b) (hk : K (b2 (kf_follow a b))) : T_X12_followsFrom g p q h K := by
  unfold T_X12_followsFrom
  have a1 : h p = some (.inl (.inr (11, [.int a.1, .int a.2.1, .int a.2.2.1, .int a.2.2.2]))) := hJ _ _ ha
  have b1 : h q = some (.inl (.inr (11, [.int b.1, .int b.2.1, .int b.2.2.1, .int b.2.2.2]))) := hJ _ _ hb
  refine ⟨_, a.2.1, a1, rfl, _, b.2.1, b1, rfl, fun z => ⟨_, a.2.2.1, a1, rfl, _, b.2.2.1, b1, rfl, fun J10 hJ10 => ?_⟩, fun z => ?_⟩
  rotate_left
  · simpa [kf_follow, z, b2] using hk
  have h10 : J10 (b2 (kf_same a b)) := by
    refine hJ10 _ ⟨_, a.2.2.1, a1, rfl, fun J29 hJ29 => ?_⟩
    have h29 : J29 (b2 (kf_less a b)) := by
      refine hJ29 _ ⟨_, a.2.2.1, a1, rfl, fun J48 hJ48 => ?_⟩
      have h48 : J48 (b2 (kf_more a b)) := by
        refine hJ48 _ ?_
        have e : kf_follow a b = (kf_same a b || kf_less a b || kf_more a b) := by simp [kf_follow, z]
        rw [e] at hk
        cases hs : kf_same a b <;> cases hl : kf_less a b <;> cases hm : kf_more a b <;> simp [hs, hl, hm, b2] at hk ⊢ <;> exact hk
      refine ⟨fun y => by simpa [kf_more, y, b2] using h48, fun y => ⟨_, b.2.2.1, b1, rfl, fun y1 => ⟨_, b.2.2.1, b1, rfl, fun y2 => by simpa [kf_more, y, y1, y2, b2] using h48, fun y2 => ⟨_, b.2.2.2, b1, rfl, _, a.2.2.2, a1, rfl, fun y3 => by simpa [kf_more, y, y1, y2, y3, b2] using h48, fun y3 => by simpa [kf_more, y, y1, y2, y3, b2] using h48⟩⟩, fun y1 => ⟨_, b.2.2.2, b1, rfl, _, a.2.2.2, a1, rfl, fun y2 => by simpa [kf_more, y, y1, y2, b2] using h48, fun y2 => ⟨_, b.2.2.1, b1, rfl, fun y3 => by simpa [kf_more, y, y1, y2, y3, b2] using h48, fun y3 => ⟨_, b.2.2.2, b1, rfl, _, a.2.2.2, a1, rfl, fun y4 => by simp [y1] at y3, fun y4 => by simp [y1] at y3⟩⟩⟩⟩⟩
    refine ⟨fun y => by simpa [kf_less, y, b2] using h29, fun y => ⟨_, b.2.2.1, b1, rfl, fun y1 => ⟨_, b.2.2.1, b1, rfl, fun y2 => by simpa [kf_less, y, y1, y2, b2] using h29, fun y2 => ⟨_, b.2.2.2, b1, rfl, _, a.2.2.2, a1, rfl, fun y3 => by simpa [kf_less, y, y1, y2, y3, b2] using h29, fun y3 => by simpa [kf_less, y, y1, y2, y3, b2] using h29⟩⟩, fun y1 => ⟨_, b.2.2.2, b1, rfl, _, a.2.2.2, a1, rfl, fun y2 => by simpa [kf_less, y, y1, y2, b2] using h29, fun y2 => ⟨_, b.2.2.1, b1, rfl, fun y3 => by simpa [kf_less, y, y1, y2, y3, b2] using h29, fun y3 => ⟨_, b.2.2.2, b1, rfl, _, a.2.2.2, a1, rfl, fun y4 => by simp [y1] at y3, fun y4 => by simp [y1] at y3⟩⟩⟩⟩⟩
  refine ⟨fun y => by simpa [kf_same, y, b2] using h10, fun y => ⟨_, a.2.2.2, a1, rfl, _, b.2.2.2, b1, rfl, fun y1 => by simpa [kf_same, y, y1, b2] using h10, fun y1 => by simpa [kf_same, y, y1, b2] using h10⟩⟩
theorem kt_follows {p l : Nat} {a : qkC} {cs : List qkC} {K : Int32 → Prop} (hJ : qkJ J h) (ha : isCond J p a) (hcs : qkR (isCond J) h l cs) (hk : K (b2 (cs.any (fun b => kf_follow a b)))) : T_X1_follows g p l h K := by
  unfold T_X1_follows
  intro X hX
  have hlen := hcs.choose_spec.2.2
  have key : ∀ n k, k + n = cs.length → X (b2 ((cs.take k).any (fun b => kf_follow a b))) (nI k) := by
    intro n
    induction n with
    | zero =>
      intro k hkn
      refine hX _ _ (rl_size hcs ⟨fun _ => ⟨b2_z, ?_⟩, fun z => absurd (nI_le (by omega) (by omega)) z⟩)
      rw [List.take_of_length_le (by omega)]
      exact hk
    | succ n ih =>
      intro k hkn
      have hk' : k < cs.length := by omega
      refine hX _ _ (rl_size hcs ⟨fun z => absurd z (nI_ge (by omega) (by omega)), fun _ => rl_get hcs rfl (List.getElem?_eq_getElem hk') fun y hy => ?_⟩)
      refine ⟨⟨_, hJ _ _ hy⟩, ⟨_, hJ _ _ ha⟩, kt_followsFrom hJ ha hy ?_⟩
      rw [b2_or, nI_1, ← any_snoc (p := fun b => kf_follow a b) hk']
      exact ih (k + 1) (by omega)
  exact key cs.length 0 (by omega)
theorem kt_joins {p : Nat} {l : qkC} {a b : Int32} {K : Int32 → Prop} (hJ : qkJ J h) (hl : isLink J p l) (hk : K (b2 (kf_joins l a b))) : T_X11_joins g p a b h K := by
  unfold T_X11_joins
  have l1 : h p = some (.inl (.inr (10, [.int l.1, .int l.2.1, .int l.2.2.1, .int l.2.2.2]))) := hJ _ _ hl
  refine ⟨_, l.1, l1, rfl, fun z => ⟨_, l.1, l1, rfl, fun z1 => ?_, fun z1 => ⟨_, l.2.2.1, l1, rfl, fun z2 => ?_, fun z2 => ?_⟩⟩, fun z => ⟨_, l.2.2.1, l1, rfl, fun z1 => ?_, fun z1 => ⟨_, l.1, l1, rfl, fun z2 => ?_, fun z2 => ⟨_, l.2.2.1, l1, rfl, fun z3 => ?_, fun z3 => ?_⟩⟩⟩⟩
  · simpa [kf_joins, z, z1, b2] using hk
  · have : kf_joins l a b = false := by simp only [kf_joins]; simp [z, z2]
    rw [this] at hk
    exact hk
  · have : kf_joins l a b = true := by simp only [kf_joins, z1, z2]; simp
    rw [this] at hk
    exact hk
  · simpa [kf_joins, z, z1, b2] using hk
  · have : kf_joins l a b = false := by simp only [kf_joins, z1, z2]; simp
    rw [this] at hk
    exact hk
  · have : kf_joins l a b = false := by simp only [kf_joins, z1, z3]; simp
    rw [this] at hk
    exact hk
  · have : kf_joins l a b = true := by simp only [kf_joins, z2, z3]; simp
    rw [this] at hk
    exact hk
theorem kt_columnOf {p : Nat} {l : qkC} {a : Int32} {K : Int32 → Prop} (hJ : qkJ J h) (hl : isLink J p l) (hk : K (kf_colOf l a)) : T_X11_columnOf g p a h K := by
  unfold T_X11_columnOf
  have l1 : h p = some (.inl (.inr (10, [.int l.1, .int l.2.1, .int l.2.2.1, .int l.2.2.2]))) := hJ _ _ hl
  refine ⟨_, l.1, l1, rfl, fun z => ⟨_, l.2.2.2, l1, rfl, ?_⟩, fun z => ⟨_, l.2.1, l1, rfl, ?_⟩⟩
  · simpa [kf_colOf, z] using hk
  · simpa [kf_colOf, z] using hk
end
