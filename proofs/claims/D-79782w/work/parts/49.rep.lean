/-! REP (printed by mk_rep.py): the component's state by value, and its representation in the heap of level 1 -/
set_option maxRecDepth 100000
abbrev qkRow : Type := Int32 × (Nat → Int32)
/-- source, due, moment -/
abbrev qkMsg : Type := Int32 × Int32 × Int32
/-- a condition: seat, column, kind, number; a link: seat, column, other, otherColumn -/
abbrev qkC : Type := Int32 × Int32 × Int32 × Int32
/-- source, conditions, rows, tick, moment -/
abbrev qkEnt : Type := Nat × List qkC × List qkRow × Int32 × Int32
abbrev qkOut : Type := Int32 × Int32
/-- scalars of the object, of lines, of sources by field number; forbidden; rows; writes; messages; cache; seats; links; conditions; outputs; bundle; the latest answer's address -/
abbrev qkA : Type := (Nat → Int32) × (Nat → Nat → Int32) × (Nat → Nat → Int32) × (Nat → Nat → Int32) × (Nat → List qkRow) × (Nat → List Int32) × (List qkMsg) × (List qkEnt) × (List Int32) × (List qkC) × (List qkC) × (List qkOut) × (List (Nat → Int32)) × Nat
abbrev aQ (A : qkA) : Nat → Int32 := A.1
abbrev aLn (A : qkA) : Nat → Nat → Int32 := A.2.1
abbrev aSr (A : qkA) : Nat → Nat → Int32 := A.2.2.1
abbrev aFb (A : qkA) : Nat → Nat → Int32 := A.2.2.2.1
abbrev aRow (A : qkA) : Nat → List qkRow := A.2.2.2.2.1
abbrev aWr (A : qkA) : Nat → List Int32 := A.2.2.2.2.2.1
abbrev aMsg (A : qkA) : List qkMsg := A.2.2.2.2.2.2.1
abbrev aCache (A : qkA) : List qkEnt := A.2.2.2.2.2.2.2.1
abbrev aSeat (A : qkA) : List Int32 := A.2.2.2.2.2.2.2.2.1
abbrev aLink (A : qkA) : List qkC := A.2.2.2.2.2.2.2.2.2.1
abbrev aCond (A : qkA) : List qkC := A.2.2.2.2.2.2.2.2.2.2.1
abbrev aOut (A : qkA) : List qkOut := A.2.2.2.2.2.2.2.2.2.2.2.1
abbrev aBun (A : qkA) : List (Nat → Int32) := A.2.2.2.2.2.2.2.2.2.2.2.2.1
abbrev aLa (A : qkA) : Nat := A.2.2.2.2.2.2.2.2.2.2.2.2.2
abbrev sQ (A : qkA) (v : Nat → Int32) : qkA := (v, A.2)
abbrev sLn (A : qkA) (v : Nat → Nat → Int32) : qkA := (A.1, v, A.2.2)
abbrev sSr (A : qkA) (v : Nat → Nat → Int32) : qkA := (A.1, A.2.1, v, A.2.2.2)
abbrev sFb (A : qkA) (v : Nat → Nat → Int32) : qkA := (A.1, A.2.1, A.2.2.1, v, A.2.2.2.2)
abbrev sRow (A : qkA) (v : Nat → List qkRow) : qkA := (A.1, A.2.1, A.2.2.1, A.2.2.2.1, v, A.2.2.2.2.2)
abbrev sWr (A : qkA) (v : Nat → List Int32) : qkA := (A.1, A.2.1, A.2.2.1, A.2.2.2.1, A.2.2.2.2.1, v, A.2.2.2.2.2.2)
abbrev sMsg (A : qkA) (v : List qkMsg) : qkA := (A.1, A.2.1, A.2.2.1, A.2.2.2.1, A.2.2.2.2.1, A.2.2.2.2.2.1, v, A.2.2.2.2.2.2.2)
abbrev sCache (A : qkA) (v : List qkEnt) : qkA := (A.1, A.2.1, A.2.2.1, A.2.2.2.1, A.2.2.2.2.1, A.2.2.2.2.2.1, A.2.2.2.2.2.2.1, v, A.2.2.2.2.2.2.2.2)
abbrev sSeat (A : qkA) (v : List Int32) : qkA := (A.1, A.2.1, A.2.2.1, A.2.2.2.1, A.2.2.2.2.1, A.2.2.2.2.2.1, A.2.2.2.2.2.2.1, A.2.2.2.2.2.2.2.1, v, A.2.2.2.2.2.2.2.2.2)
abbrev sLink (A : qkA) (v : List qkC) : qkA := (A.1, A.2.1, A.2.2.1, A.2.2.2.1, A.2.2.2.2.1, A.2.2.2.2.2.1, A.2.2.2.2.2.2.1, A.2.2.2.2.2.2.2.1, A.2.2.2.2.2.2.2.2.1, v, A.2.2.2.2.2.2.2.2.2.2)
abbrev sCond (A : qkA) (v : List qkC) : qkA := (A.1, A.2.1, A.2.2.1, A.2.2.2.1, A.2.2.2.2.1, A.2.2.2.2.2.1, A.2.2.2.2.2.2.1, A.2.2.2.2.2.2.2.1, A.2.2.2.2.2.2.2.2.1, A.2.2.2.2.2.2.2.2.2.1, v, A.2.2.2.2.2.2.2.2.2.2.2)
abbrev sOut (A : qkA) (v : List qkOut) : qkA := (A.1, A.2.1, A.2.2.1, A.2.2.2.1, A.2.2.2.2.1, A.2.2.2.2.2.1, A.2.2.2.2.2.2.1, A.2.2.2.2.2.2.2.1, A.2.2.2.2.2.2.2.2.1, A.2.2.2.2.2.2.2.2.2.1, A.2.2.2.2.2.2.2.2.2.2.1, v, A.2.2.2.2.2.2.2.2.2.2.2.2)
abbrev sBun (A : qkA) (v : List (Nat → Int32)) : qkA := (A.1, A.2.1, A.2.2.1, A.2.2.2.1, A.2.2.2.2.1, A.2.2.2.2.2.1, A.2.2.2.2.2.2.1, A.2.2.2.2.2.2.2.1, A.2.2.2.2.2.2.2.2.1, A.2.2.2.2.2.2.2.2.2.1, A.2.2.2.2.2.2.2.2.2.2.1, A.2.2.2.2.2.2.2.2.2.2.2.1, v, A.2.2.2.2.2.2.2.2.2.2.2.2.2)
abbrev sLa (A : qkA) (v : Nat) : qkA := (A.1, A.2.1, A.2.2.1, A.2.2.2.1, A.2.2.2.2.1, A.2.2.2.2.2.1, A.2.2.2.2.2.2.1, A.2.2.2.2.2.2.2.1, A.2.2.2.2.2.2.2.2.1, A.2.2.2.2.2.2.2.2.2.1, A.2.2.2.2.2.2.2.2.2.2.1, A.2.2.2.2.2.2.2.2.2.2.2.1, A.2.2.2.2.2.2.2.2.2.2.2.2.1, v)
def qkU {α : Type} (f : Nat → α) (k : Nat) (v : α) : Nat → α := fun j => if j = k then v else f j
theorem qkU_s {α : Type} {f : Nat → α} {k : Nat} {v : α} : qkU f k v k = v := if_pos rfl
theorem qkU_n {α : Type} {f : Nat → α} {k j : Nat} {v : α} (h : j ≠ k) : qkU f k v j = f j := if_neg h
/-- lists of addresses and of values, place by place -/
def qkL {α : Type} (P : Nat → α → Prop) (xs : List Nat) (vs : List α) : Prop := xs.length = vs.length ∧ ∀ (i x : Nat) (v : α), xs[i]? = some x → vs[i]? = some v → P x v
theorem qkL.mono {α : Type} {P Q : Nat → α → Prop} {xs : List Nat} {vs : List α} (h : qkL P xs vs) (hm : ∀ x v, P x v → Q x v) : qkL Q xs vs := ⟨h.1, fun i x v h1 h2 => hm x v (h.2 i x v h1 h2)⟩
theorem qkL.mono' {α : Type} {P Q : Nat → α → Prop} {xs : List Nat} {vs : List α} (h : qkL P xs vs) (hm : ∀ (i x : Nat) (v : α), xs[i]? = some x → vs[i]? = some v → Q x v) : qkL Q xs vs := ⟨h.1, hm⟩
theorem qkL.nil {α : Type} {P : Nat → α → Prop} : qkL P [] [] := ⟨rfl, fun i x v h _ => by simp at h⟩
theorem qkL.get {α : Type} {P : Nat → α → Prop} {xs : List Nat} {vs : List α} (h : qkL P xs vs) {i : Nat} {v : α} (hv : vs[i]? = some v) : ∃ x, xs[i]? = some x ∧ P x v := by
  have hi : i < xs.length := by rw [h.1]; exact (List.getElem?_eq_some_iff.mp hv).1
  exact ⟨xs[i], List.getElem?_eq_getElem hi, h.2 i _ v (List.getElem?_eq_getElem hi) hv⟩
theorem qkL.app {α : Type} {P : Nat → α → Prop} {xs ys : List Nat} {vs ws : List α} (h : qkL P xs vs) (k : qkL P ys ws) : qkL P (xs ++ ys) (vs ++ ws) := by
  refine ⟨by rw [List.length_append, List.length_append, h.1, k.1], fun i x v h1 h2 => ?_⟩
  by_cases hi : i < xs.length
  · rw [List.getElem?_append_left hi] at h1
    rw [List.getElem?_append_left (by rw [← h.1]; exact hi)] at h2
    exact h.2 i x v h1 h2
  · rw [List.getElem?_append_right (by omega)] at h1
    rw [List.getElem?_append_right (by rw [← h.1]; omega), ← h.1] at h2
    exact k.2 _ x v h1 h2
theorem qkL.one {α : Type} {P : Nat → α → Prop} {x : Nat} {v : α} (h : P x v) : qkL P [x] [v] := by
  refine ⟨rfl, fun i y w h1 h2 => ?_⟩
  cases i with
  | zero => simp at h1 h2; subst h1; subst h2; exact h
  | succ n => simp at h1
theorem qkL.cons {α : Type} {P : Nat → α → Prop} {x : Nat} {v : α} {xs : List Nat} {vs : List α} (h : P x v) (k : qkL P xs vs) : qkL P (x :: xs) (v :: vs) := (qkL.one h).app k
theorem qkL.take {α : Type} {P : Nat → α → Prop} {xs : List Nat} {vs : List α} (h : qkL P xs vs) (n : Nat) : qkL P (xs.take n) (vs.take n) := by
  refine ⟨by rw [List.length_take, List.length_take, h.1], fun i x v h1 h2 => ?_⟩
  rw [List.getElem?_take] at h1 h2
  by_cases hi : i < n
  · rw [if_pos hi] at h1 h2
    exact h.2 i x v h1 h2
  · rw [if_neg hi] at h1
    cases h1
theorem qkL.drop {α : Type} {P : Nat → α → Prop} {xs : List Nat} {vs : List α} (h : qkL P xs vs) (n : Nat) : qkL P (xs.drop n) (vs.drop n) := by
  refine ⟨by rw [List.length_drop, List.length_drop, h.1], fun i x v h1 h2 => ?_⟩
  rw [List.getElem?_drop] at h1 h2
  exact h.2 _ x v h1 h2
theorem qkL.erase {α : Type} {P : Nat → α → Prop} {xs : List Nat} {vs : List α} (h : qkL P xs vs) (n : Nat) : qkL P (xs.eraseIdx n) (vs.eraseIdx n) := by
  rw [List.eraseIdx_eq_take_drop_succ, List.eraseIdx_eq_take_drop_succ]
  exact (h.take n).app (h.drop (n + 1))
theorem qkL.set {α : Type} {P : Nat → α → Prop} {xs : List Nat} {vs : List α} {y : Nat} {w : α} (h : qkL P xs vs) (n : Nat) (hy : P y w) : qkL P (xs.set n y) (vs.set n w) := by
  refine ⟨by rw [List.length_set, List.length_set, h.1], fun i x v h1 h2 => ?_⟩
  by_cases hi : n = i
  · subst hi
    have hl : n < xs.length := by
      have := (List.getElem?_eq_some_iff.mp h1).1
      rwa [List.length_set] at this
    rw [List.getElem?_set_self hl] at h1
    rw [List.getElem?_set_self (by rw [← h.1]; exact hl)] at h2
    cases h1
    cases h2
    exact hy
  · rw [List.getElem?_set_ne hi] at h1 h2
    exact h.2 i x v h1 h2
theorem qkL.ins {α : Type} {P : Nat → α → Prop} {xs : List Nat} {vs : List α} {y : Nat} {w : α} (h : qkL P xs vs) (n : Nat) (hy : P y w) : qkL P (xs.take n ++ y :: xs.drop n) (vs.take n ++ w :: vs.drop n) := (h.take n).app (qkL.cons hy (h.drop n))
/-- what does not change any more: J, a part of the heap -/
def qkJ (J J' : qc_H) : Prop := ∀ a e, J a = some e → J' a = some e
theorem qkJ.rf {J : qc_H} : qkJ J J := fun _ _ h => h
theorem qkJ.tr {J J' J'' : qc_H} (h : qkJ J J') (k : qkJ J' J'') : qkJ J J'' := fun a e z => k a e (h a e z)
theorem qkJ.up {J : qc_H} {a : Nat} {e : qc_E} (h : J a = none ∨ J a = some e) : qkJ J (qc_up J a e) := fun b e' hb => by
  by_cases n : b = a
  · subst n
    rw [qc_up_s]
    rcases h with h | h
    · rw [h] at hb; cases hb
    · rw [h] at hb; exact hb
  · rw [qc_up_n n]; exact hb
def isRow (g : qh_G) (J : qc_H) (p : Nat) (v : qkRow) : Prop := ∃ ca : Nat, J p = some (.inl (.inr (8, [.int v.1, .ref ca]))) ∧ J ca = some (.inl (.inl (g.2.2.2.1 0, 4, .inl v.2)))
def isMsg (J : qc_H) (p : Nat) (v : qkMsg) : Prop := J p = some (.inl (.inr (9, [.int v.1, .int v.2.1, .int v.2.2])))
def isInt (J : qc_H) (p : Nat) (v : Int32) : Prop := J p = some (.inl (.inr (17, [.int v])))
def isLink (J : qc_H) (p : Nat) (v : qkC) : Prop := J p = some (.inl (.inr (10, [.int v.1, .int v.2.1, .int v.2.2.1, .int v.2.2.2])))
def isCond (J : qc_H) (p : Nat) (v : qkC) : Prop := J p = some (.inl (.inr (11, [.int v.1, .int v.2.1, .int v.2.2.1, .int v.2.2.2])))
def isOut (J : qc_H) (p : Nat) (v : qkOut) : Prop := J p = some (.inl (.inr (12, [.int v.1, .int v.2])))
def isStep (g : qh_G) (J : qc_H) (p : Nat) (v : Nat → Int32) : Prop := J p = some (.inl (.inl (g.2.2.2.1 0, 6, .inl v)))
/-- a list of a heap -/
def qkR {α : Type} (P : Nat → α → Prop) (h : qc_H) (p : Nat) (vs : List α) : Prop := ∃ xs : List Nat, h p = some (.inr xs) ∧ qkL P xs vs ∧ vs.length ≤ 20000
theorem qkR.mono {α : Type} {P Q : Nat → α → Prop} {h h' : qc_H} {p : Nat} {vs : List α} (k : qkR P h p vs) (he : ∀ e, h p = some e → h' p = some e) (hm : ∀ x v, P x v → Q x v) : qkR Q h' p vs := by
  obtain ⟨xs, h1, h2, h3⟩ := k
  exact ⟨xs, he _ h1, h2.mono hm, h3⟩
def isEnt (g : qh_G) (L : Nat → Nat) (J : qc_H) (p : Nat) (v : qkEnt) : Prop := ∃ cl rl : Nat, v.1 < 6 ∧ J p = some (.inl (.inr (14, [.ref (L (16 + v.1)), .ref cl, .ref rl, .int v.2.2.2.1, .int v.2.2.2.2]))) ∧ qkR (isCond J) J cl v.2.1 ∧ qkR (isRow g J) J rl v.2.2.1
theorem isRow.mono {g : qh_G} {J J' : qc_H} (hJ : qkJ J J') : ∀ p v, isRow g J p v → isRow g J' p v := fun _ _ ⟨ca, h1, h2⟩ => ⟨ca, hJ _ _ h1, hJ _ _ h2⟩
theorem isMsg.mono {J J' : qc_H} (hJ : qkJ J J') : ∀ p v, isMsg J p v → isMsg J' p v := fun _ _ h => hJ _ _ h
theorem isInt.mono {J J' : qc_H} (hJ : qkJ J J') : ∀ p v, isInt J p v → isInt J' p v := fun _ _ h => hJ _ _ h
theorem isLink.mono {J J' : qc_H} (hJ : qkJ J J') : ∀ p v, isLink J p v → isLink J' p v := fun _ _ h => hJ _ _ h
theorem isCond.mono {J J' : qc_H} (hJ : qkJ J J') : ∀ p v, isCond J p v → isCond J' p v := fun _ _ h => hJ _ _ h
theorem isOut.mono {J J' : qc_H} (hJ : qkJ J J') : ∀ p v, isOut J p v → isOut J' p v := fun _ _ h => hJ _ _ h
theorem isStep.mono {g : qh_G} {J J' : qc_H} (hJ : qkJ J J') : ∀ p v, isStep g J p v → isStep g J' p v := fun _ _ h => hJ _ _ h
theorem isEnt.mono {g : qh_G} {L : Nat → Nat} {J J' : qc_H} (hJ : qkJ J J') : ∀ p v, isEnt g L J p v → isEnt g L J' p v := fun _ _ ⟨cl, rl, h1, h2, h3, h4⟩ => ⟨cl, rl, h1, hJ _ _ h2, h3.mono (fun e => hJ _ e) (isCond.mono hJ), h4.mono (fun e => hJ _ e) (isRow.mono hJ)⟩
/-- what may stay: no answer, no seat -/
def qkIm (e : qc_E) : Prop := match e with
  | .inl (.inl y) => ∃ f, y.2.2 = .inl f
  | .inl (.inr o) => o.1 ≠ 5 ∧ o.1 ≠ 13
  | .inr _ => True
abbrev qkO (L : Nat → Nat) (q : Nat → Int32) (la : Nat) : List Value := [.ref (L 1), .ref (L 2), .ref (L 3), .ref (L 34), .ref (L 35), .ref (L 36), .ref (L 37), .ref (L 38), .ref (L 39), .ref (L 40), .int (q 10), .int (q 11), .ref la, .int (q 13), .int (q 14), .int (q 15)]
abbrev qkLine (L : Nat → Nat) (l : Nat) (f : Nat → Int32) : List Value := [.ref (L (13 + l)), .int (f 1), .int (f 2), .int (f 3), .int (f 4), .int (f 5), .int (f 6), .int (f 7), .int (f 8), .int (f 9)]
abbrev qkSrc (L : Nat → Nat) (s : Nat) (f : Nat → Int32) : List Value := [.int (nI s), .ref (L (10 + s / 2)), .ref (L (22 + s)), .ref (L (28 + s)), .int (f 4), .int (f 5)]
/-- a box -/
def qkBx (e : qc_E) : Prop := ∃ v : Int32, e = .inl (.inr (17, [.int v]))
def qkRep (g : qh_G) (L : Nat → Nat) (J h : qc_H) (A : qkA) : Prop := ((∀ i j, i < 41 → j < 41 → L i = L j → i = j) ∧ (∀ n, 41 ≤ n → n < 200 → h (L n) ≠ none) ∧ ∀ n, 41 ≤ n → n < 200 → ∀ e, J (L n) = some e → qkBx e) ∧ qkJ J h ∧ (∀ n, n < 41 → J (L n) = none) ∧ (∀ a e, J a = some e → qkIm e) ∧ (h (L 0) = some (.inl (.inr (0, qkO L (aQ A) (aLa A))))) ∧ (h (L 1) = some (.inl (.inl (g.2.2.2.1 4, 3, .inr (.inr (.inr (.inr (fun l => some (L (10 + l)))))))))) ∧ (h (L 2) = some (.inl (.inl (g.2.2.2.1 5, 6, .inr (.inr (.inr (.inr (fun s => some (L (16 + s)))))))))) ∧ (h (L 3) = some (.inl (.inl (g.2.2.2.1 8, 6, .inr (.inr (.inr (.inr (fun s => some (L (4 + s)))))))))) ∧ (∀ s, s < 6 → h (L (4 + s)) = some (.inl (.inl (g.2.2.2.1 1, 3, .inl (aFb A s))))) ∧ (∀ s, s < 3 → h (L (10 + s)) = some (.inl (.inr (1, qkLine L s (aLn A s))))) ∧ (∀ s, s < 3 → h (L (13 + s)) = some (.inl (.inr (2 + s, [])))) ∧ (∀ s, s < 6 → h (L (16 + s)) = some (.inl (.inr (6, qkSrc L s (aSr A s))))) ∧ (∀ s, s < 6 → qkR (isRow g J) h (L (22 + s)) (aRow A s)) ∧ (∀ s, s < 6 → qkR (isInt J) h (L (28 + s)) (aWr A s)) ∧ (qkR (isMsg J) h (L 34) (aMsg A)) ∧ (qkR (isEnt g L J) h (L 35) (aCache A)) ∧ (qkR (isInt J) h (L 36) (aSeat A)) ∧ (qkR (isLink J) h (L 37) (aLink A)) ∧ (qkR (isCond J) h (L 38) (aCond A)) ∧ (qkR (isOut J) h (L 39) (aOut A)) ∧ (qkR (isStep g J) h (L 40) (aBun A))
section
variable {g : qh_G} {L : Nat → Nat} {J h : qc_H} {A : qkA}
theorem qkRep.inj (R : qkRep g L J h A) : ∀ i j, i < 41 → j < 41 → L i = L j → i = j := R.1.1
theorem qkRep.gu (R : qkRep g L J h A) : ∀ n, 41 ≤ n → n < 200 → h (L n) ≠ none := R.1.2.1
theorem qkRep.gj (R : qkRep g L J h A) : ∀ n, 41 ≤ n → n < 200 → ∀ e, J (L n) = some e → qkBx e := R.1.2.2
theorem gu_up {L : Nat → Nat} {h : qc_H} {a : Nat} {e : qc_E} (hg : ∀ n, 41 ≤ n → n < 200 → h (L n) ≠ none) : ∀ n, 41 ≤ n → n < 200 → (qc_up h a e) (L n) ≠ none := fun n h1 h2 => by
  by_cases z : L n = a
  · rw [z, qc_up_s]; intro z; cases z
  · rw [qc_up_n z]; exact hg n h1 h2
theorem gj_up {L : Nat → Nat} {J : qc_H} {a : Nat} {e : qc_E} (hj : ∀ n, 41 ≤ n → n < 200 → ∀ e, J (L n) = some e → qkBx e) (hg : (∀ n, 41 ≤ n → n < 200 → a ≠ L n) ∨ qkBx e) : ∀ n, 41 ≤ n → n < 200 → ∀ e' : qc_E, (qc_up J a e) (L n) = some e' → qkBx e' := fun n h1 h2 e' he => by
  by_cases z : L n = a
  · rw [z, qc_up_s] at he
    rcases hg with hg | hg
    · exact absurd z.symm (hg n h1 h2)
    · cases he; exact hg
  · rw [qc_up_n z] at he; exact hj n h1 h2 e' he
theorem qkRep.jh (R : qkRep g L J h A) : qkJ J h := R.2.1
theorem qkRep.off (R : qkRep g L J h A) : ∀ n, n < 41 → J (L n) = none := R.2.2.1
theorem qkRep.im (R : qkRep g L J h A) : ∀ a e, J a = some e → qkIm e := R.2.2.2.1
theorem qkRep.x (R : qkRep g L J h A) : h (L 0) = some (.inl (.inr (0, qkO L (aQ A) (aLa A)))) := R.2.2.2.2.1
theorem qkRep.lines (R : qkRep g L J h A) : h (L 1) = some (.inl (.inl (g.2.2.2.1 4, 3, .inr (.inr (.inr (.inr (fun l => some (L (10 + l))))))))) := R.2.2.2.2.2.1
theorem qkRep.srcs (R : qkRep g L J h A) : h (L 2) = some (.inl (.inl (g.2.2.2.1 5, 6, .inr (.inr (.inr (.inr (fun s => some (L (16 + s))))))))) := R.2.2.2.2.2.2.1
theorem qkRep.fbs (R : qkRep g L J h A) : h (L 3) = some (.inl (.inl (g.2.2.2.1 8, 6, .inr (.inr (.inr (.inr (fun s => some (L (4 + s))))))))) := R.2.2.2.2.2.2.2.1
theorem qkRep.fb (R : qkRep g L J h A) {s : Nat} (hs : s < 6) : h (L (4 + s)) = some (.inl (.inl (g.2.2.2.1 1, 3, .inl (aFb A s)))) := R.2.2.2.2.2.2.2.2.1 s hs
theorem qkRep.line (R : qkRep g L J h A) {s : Nat} (hs : s < 3) : h (L (10 + s)) = some (.inl (.inr (1, qkLine L s (aLn A s)))) := R.2.2.2.2.2.2.2.2.2.1 s hs
theorem qkRep.store (R : qkRep g L J h A) {s : Nat} (hs : s < 3) : h (L (13 + s)) = some (.inl (.inr (2 + s, []))) := R.2.2.2.2.2.2.2.2.2.2.1 s hs
theorem qkRep.src (R : qkRep g L J h A) {s : Nat} (hs : s < 6) : h (L (16 + s)) = some (.inl (.inr (6, qkSrc L s (aSr A s)))) := R.2.2.2.2.2.2.2.2.2.2.2.1 s hs
theorem qkRep.rows (R : qkRep g L J h A) {s : Nat} (hs : s < 6) : qkR (isRow g J) h (L (22 + s)) (aRow A s) := R.2.2.2.2.2.2.2.2.2.2.2.2.1 s hs
theorem qkRep.wr (R : qkRep g L J h A) {s : Nat} (hs : s < 6) : qkR (isInt J) h (L (28 + s)) (aWr A s) := R.2.2.2.2.2.2.2.2.2.2.2.2.2.1 s hs
theorem qkRep.msgs (R : qkRep g L J h A) : qkR (isMsg J) h (L 34) (aMsg A) := R.2.2.2.2.2.2.2.2.2.2.2.2.2.2.1
theorem qkRep.cache (R : qkRep g L J h A) : qkR (isEnt g L J) h (L 35) (aCache A) := R.2.2.2.2.2.2.2.2.2.2.2.2.2.2.2.1
theorem qkRep.seats (R : qkRep g L J h A) : qkR (isInt J) h (L 36) (aSeat A) := R.2.2.2.2.2.2.2.2.2.2.2.2.2.2.2.2.1
theorem qkRep.links (R : qkRep g L J h A) : qkR (isLink J) h (L 37) (aLink A) := R.2.2.2.2.2.2.2.2.2.2.2.2.2.2.2.2.2.1
theorem qkRep.conds (R : qkRep g L J h A) : qkR (isCond J) h (L 38) (aCond A) := R.2.2.2.2.2.2.2.2.2.2.2.2.2.2.2.2.2.2.1
theorem qkRep.outs (R : qkRep g L J h A) : qkR (isOut J) h (L 39) (aOut A) := R.2.2.2.2.2.2.2.2.2.2.2.2.2.2.2.2.2.2.2.1
theorem qkRep.bun (R : qkRep g L J h A) : qkR (isStep g J) h (L 40) (aBun A) := R.2.2.2.2.2.2.2.2.2.2.2.2.2.2.2.2.2.2.2.2
/-- every cell of the component is there -/
theorem qkRep.cell (R : qkRep g L J h A) : ∀ n, n < 41 → h (L n) ≠ none := by
  intro n hn
  have : n = 0 ∨ n = 1 ∨ n = 2 ∨ n = 3 ∨ (∃ s, s < 6 ∧ n = 4 + s) ∨ (∃ s, s < 3 ∧ n = 10 + s) ∨ (∃ s, s < 3 ∧ n = 13 + s) ∨ (∃ s, s < 6 ∧ n = 16 + s) ∨ (∃ s, s < 6 ∧ n = 22 + s) ∨ (∃ s, s < 6 ∧ n = 28 + s) ∨ n = 34 ∨ n = 35 ∨ n = 36 ∨ n = 37 ∨ n = 38 ∨ n = 39 ∨ n = 40 := by
    by_cases h0 : n < 4
    · omega
    by_cases h1 : n < 10
    · exact Or.inr (Or.inr (Or.inr (Or.inr (Or.inl ⟨n - 4, by omega, by omega⟩))))
    by_cases h2 : n < 13
    · exact Or.inr (Or.inr (Or.inr (Or.inr (Or.inr (Or.inl ⟨n - 10, by omega, by omega⟩)))))
    by_cases h3 : n < 16
    · exact Or.inr (Or.inr (Or.inr (Or.inr (Or.inr (Or.inr (Or.inl ⟨n - 13, by omega, by omega⟩))))))
    by_cases h4 : n < 22
    · exact Or.inr (Or.inr (Or.inr (Or.inr (Or.inr (Or.inr (Or.inr (Or.inl ⟨n - 16, by omega, by omega⟩)))))))
    by_cases h5 : n < 28
    · exact Or.inr (Or.inr (Or.inr (Or.inr (Or.inr (Or.inr (Or.inr (Or.inr (Or.inl ⟨n - 22, by omega, by omega⟩))))))))
    by_cases h6 : n < 34
    · exact Or.inr (Or.inr (Or.inr (Or.inr (Or.inr (Or.inr (Or.inr (Or.inr (Or.inr (Or.inl ⟨n - 28, by omega, by omega⟩)))))))))
    omega
  intro hz
  rcases this with rfl | rfl | rfl | rfl | ⟨s, hs, rfl⟩ | ⟨s, hs, rfl⟩ | ⟨s, hs, rfl⟩ | ⟨s, hs, rfl⟩ | ⟨s, hs, rfl⟩ | ⟨s, hs, rfl⟩ | rfl | rfl | rfl | rfl | rfl | rfl | rfl
  · rw [R.x] at hz; cases hz
  · rw [R.lines] at hz; cases hz
  · rw [R.srcs] at hz; cases hz
  · rw [R.fbs] at hz; cases hz
  · rw [R.fb hs] at hz; cases hz
  · rw [R.line hs] at hz; cases hz
  · rw [R.store hs] at hz; cases hz
  · rw [R.src hs] at hz; cases hz
  · obtain ⟨xs, h1, -⟩ := R.rows hs; rw [h1] at hz; cases hz
  · obtain ⟨xs, h1, -⟩ := R.wr hs; rw [h1] at hz; cases hz
  · obtain ⟨xs, h1, -⟩ := R.msgs; rw [h1] at hz; cases hz
  · obtain ⟨xs, h1, -⟩ := R.cache; rw [h1] at hz; cases hz
  · obtain ⟨xs, h1, -⟩ := R.seats; rw [h1] at hz; cases hz
  · obtain ⟨xs, h1, -⟩ := R.links; rw [h1] at hz; cases hz
  · obtain ⟨xs, h1, -⟩ := R.conds; rw [h1] at hz; cases hz
  · obtain ⟨xs, h1, -⟩ := R.outs; rw [h1] at hz; cases hz
  · obtain ⟨xs, h1, -⟩ := R.bun; rw [h1] at hz; cases hz
/-- J grows, and the heap changes elsewhere -/
theorem qkRep.grow {J' h' : qc_H} (R : qkRep g L J h A) (hJ : qkJ J J') (hJh : qkJ J' h') (hgu : ∀ n, 41 ≤ n → n < 200 → h' (L n) ≠ none) (hgj : ∀ n, 41 ≤ n → n < 200 → ∀ e, J' (L n) = some e → qkBx e) (hoff : ∀ n, n < 41 → J' (L n) = none) (him : ∀ a e, J' a = some e → qkIm e) (hh : ∀ a, (∃ n, n < 41 ∧ a = L n) → h' a = h a) : qkRep g L J' h' A :=
  ⟨⟨R.inj, hgu, hgj⟩, hJh, hoff, him, by rw [hh (L 0) ⟨0, by omega, rfl⟩]; exact R.x, by rw [hh (L 1) ⟨1, by omega, rfl⟩]; exact R.lines, by rw [hh (L 2) ⟨2, by omega, rfl⟩]; exact R.srcs, by rw [hh (L 3) ⟨3, by omega, rfl⟩]; exact R.fbs, fun s hs => by rw [hh (L (4 + s)) ⟨4 + s, by omega, rfl⟩]; exact R.fb hs, fun s hs => by rw [hh (L (10 + s)) ⟨10 + s, by omega, rfl⟩]; exact R.line hs, fun s hs => by rw [hh (L (13 + s)) ⟨13 + s, by omega, rfl⟩]; exact R.store hs, fun s hs => by rw [hh (L (16 + s)) ⟨16 + s, by omega, rfl⟩]; exact R.src hs, fun s hs => (R.rows hs).mono (fun e z => by rw [hh (L (22 + s)) ⟨22 + s, by omega, rfl⟩]; exact z) (isRow.mono hJ), fun s hs => (R.wr hs).mono (fun e z => by rw [hh (L (28 + s)) ⟨28 + s, by omega, rfl⟩]; exact z) (isInt.mono hJ), R.msgs.mono (fun e z => by rw [hh (L 34) ⟨34, by omega, rfl⟩]; exact z) (isMsg.mono hJ), R.cache.mono (fun e z => by rw [hh (L 35) ⟨35, by omega, rfl⟩]; exact z) (isEnt.mono hJ), R.seats.mono (fun e z => by rw [hh (L 36) ⟨36, by omega, rfl⟩]; exact z) (isInt.mono hJ), R.links.mono (fun e z => by rw [hh (L 37) ⟨37, by omega, rfl⟩]; exact z) (isLink.mono hJ), R.conds.mono (fun e z => by rw [hh (L 38) ⟨38, by omega, rfl⟩]; exact z) (isCond.mono hJ), R.outs.mono (fun e z => by rw [hh (L 39) ⟨39, by omega, rfl⟩]; exact z) (isOut.mono hJ), R.bun.mono (fun e z => by rw [hh (L 40) ⟨40, by omega, rfl⟩]; exact z) (isStep.mono hJ)⟩
/-- outside the component's own cells -/
def qkF (L : Nat → Nat) (a : Nat) : Prop := ∀ n, n < 41 → a ≠ L n
theorem qkRep.fresh {a : Nat} (R : qkRep g L J h A) (ha : h a = none) : qkF L a := fun n hn e => R.cell n hn (by rw [← e]; exact ha)
theorem qkRep.freshG {a : Nat} (R : qkRep g L J h A) (ha : h a = none) : ∀ n, 41 ≤ n → n < 200 → a ≠ L n := fun n h1 h2 e => R.gu n h1 h2 (by rw [← e]; exact ha)
theorem qkRep.Jf {a : Nat} {e : qc_E} (R : qkRep g L J h A) (ha : J a = some e) : qkF L a := fun n hn z => by rw [z, R.off n hn] at ha; cases ha
theorem qkRep.Jn {a : Nat} (R : qkRep g L J h A) (ha : h a = none) : J a = none := by
  cases hz : J a with
  | none => rfl
  | some e => rw [R.jh a e hz] at ha; cases ha
/-- a cell elsewhere is new or changes -/
theorem qkRep.other {a : Nat} {e : qc_E} (R : qkRep g L J h A) (ha : qkF L a) (hJ : J a = none) : qkRep g L J (qc_up h a e) A :=
  R.grow qkJ.rf (fun b e' hb => by rw [qc_up_n (by intro z; subst z; rw [hJ] at hb; cases hb)]; exact R.jh b e' hb) (gu_up R.gu) R.gj R.off R.im (fun b ⟨n, hn, hb⟩ => qc_up_n (by intro z; exact ha n hn (by rw [← z, hb])))
/-- a new cell that stays -/
theorem qkRep.keep {a : Nat} {e : qc_E} (R : qkRep g L J h A) (ha : qkF L a) (hg : (∀ n, 41 ≤ n → n < 200 → a ≠ L n) ∨ qkBx e) (hJ : J a = none ∨ J a = some e) (hi : qkIm e := by first | trivial | exact ⟨_, rfl⟩ | exact ⟨by simp, by simp⟩) : qkRep g L (qc_up J a e) (qc_up h a e) A :=
  R.grow (qkJ.up hJ) (fun b e' hb => by
    by_cases n : b = a
    · subst n; rw [qc_up_s] at hb ⊢; exact hb
    · rw [qc_up_n n] at hb ⊢; exact R.jh b e' hb) (gu_up R.gu) (gj_up R.gj hg) (fun n hn => by rw [qc_up_n (fun z => ha n hn z.symm)]; exact R.off n hn) (fun b e' hb => by
    by_cases n : b = a
    · subst n; rw [qc_up_s] at hb; cases hb; exact hi
    · rw [qc_up_n n] at hb; exact R.im b e' hb) (fun b ⟨n, hn, hb⟩ => qc_up_n (by intro z; exact ha n hn (by rw [← z, hb])))
/-- a cell that is there stays from now on -/
theorem qkRep.freeze {a : Nat} {e : qc_E} (R : qkRep g L J h A) (ha : qkF L a) (hg : ∀ n, 41 ≤ n → n < 200 → a ≠ L n) (he : h a = some e) (hi : qkIm e := by first | trivial | exact ⟨_, rfl⟩ | exact ⟨by simp, by simp⟩) : qkRep g L (qc_up J a e) h A :=
  R.grow (qkJ.up (by
    cases hz : J a with
    | none => exact Or.inl rfl
    | some e' => exact Or.inr (by have := R.jh a e' hz; rw [he] at this; exact this.symm))) (fun b e' hb => by
    by_cases n : b = a
    · subst n; rw [qc_up_s] at hb; rw [he]; exact hb
    · rw [qc_up_n n] at hb; exact R.jh b e' hb) R.gu (gj_up R.gj (Or.inl hg)) (fun n hn => by rw [qc_up_n (fun z => ha n hn z.symm)]; exact R.off n hn) (fun b e' hb => by
    by_cases n : b = a
    · subst n; rw [qc_up_s] at hb; cases hb; exact hi
    · rw [qc_up_n n] at hb; exact R.im b e' hb) (fun b _ => rfl)
/-- an array of references may change -/
theorem qkRep.mua {a : Nat} {c : ClassId} {n : Nat} {y} (R : qkRep g L J h A) (ha : h a = some (.inl (.inl (c, n, .inr y)))) : J a = none := by
  cases hz : J a with
  | none => rfl
  | some e =>
    have h1 := R.jh a e hz
    rw [ha] at h1
    cases h1
    obtain ⟨f, h2⟩ := R.im a _ hz
    cases h2
/-- an answer or a seat may change -/
theorem qkRep.mu {a ci : Nat} {fs : List Value} (R : qkRep g L J h A) (ha : h a = some (.inl (.inr (ci, fs)))) (hc : ci = 5 ∨ ci = 13) : J a = none := by
  cases hz : J a with
  | none => rfl
  | some e =>
    have h1 := R.jh a e hz
    rw [ha] at h1
    cases h1
    have h2 := R.im a _ hz
    rcases hc with q | q
    · exact absurd q h2.1
    · exact absurd q h2.2

theorem qkRep.pQ {v : Nat → Int32} {la : Nat} (R : qkRep g L J h A) : qkRep g L J (qc_up h (L (0)) (.inl (.inr (0, qkO L v la)))) (sLa (sQ A v) la) :=
  ⟨⟨R.inj, gu_up R.gu, R.gj⟩, fun b e hb => by rw [qc_up_n (by intro z; rw [z, R.off _ (by omega)] at hb; cases hb)]; exact R.jh b e hb, R.off, R.im, qc_up_s,
   by rw [qc_up_n (by intro z1; have := R.inj _ _ (by omega) (by omega) z1; omega)]; exact R.lines,
   by rw [qc_up_n (by intro z1; have := R.inj _ _ (by omega) (by omega) z1; omega)]; exact R.srcs,
   by rw [qc_up_n (by intro z1; have := R.inj _ _ (by omega) (by omega) z1; omega)]; exact R.fbs,
   fun s hs => by rw [qc_up_n (by intro z1; have := R.inj _ _ (by omega) (by omega) z1; omega)]; exact R.fb hs,
   fun s hs => by rw [qc_up_n (by intro z1; have := R.inj _ _ (by omega) (by omega) z1; omega)]; exact R.line hs,
   fun s hs => by rw [qc_up_n (by intro z1; have := R.inj _ _ (by omega) (by omega) z1; omega)]; exact R.store hs,
   fun s hs => by rw [qc_up_n (by intro z1; have := R.inj _ _ (by omega) (by omega) z1; omega)]; exact R.src hs,
   fun s hs => (R.rows hs).mono (fun e z => by rw [qc_up_n (by intro z1; have := R.inj _ _ (by omega) (by omega) z1; omega)]; exact z) (fun _ _ z => z),
   fun s hs => (R.wr hs).mono (fun e z => by rw [qc_up_n (by intro z1; have := R.inj _ _ (by omega) (by omega) z1; omega)]; exact z) (fun _ _ z => z),
   R.msgs.mono (fun e z => by rw [qc_up_n (by intro z1; have := R.inj _ _ (by omega) (by omega) z1; omega)]; exact z) (fun _ _ z => z),
   R.cache.mono (fun e z => by rw [qc_up_n (by intro z1; have := R.inj _ _ (by omega) (by omega) z1; omega)]; exact z) (fun _ _ z => z),
   R.seats.mono (fun e z => by rw [qc_up_n (by intro z1; have := R.inj _ _ (by omega) (by omega) z1; omega)]; exact z) (fun _ _ z => z),
   R.links.mono (fun e z => by rw [qc_up_n (by intro z1; have := R.inj _ _ (by omega) (by omega) z1; omega)]; exact z) (fun _ _ z => z),
   R.conds.mono (fun e z => by rw [qc_up_n (by intro z1; have := R.inj _ _ (by omega) (by omega) z1; omega)]; exact z) (fun _ _ z => z),
   R.outs.mono (fun e z => by rw [qc_up_n (by intro z1; have := R.inj _ _ (by omega) (by omega) z1; omega)]; exact z) (fun _ _ z => z),
   R.bun.mono (fun e z => by rw [qc_up_n (by intro z1; have := R.inj _ _ (by omega) (by omega) z1; omega)]; exact z) (fun _ _ z => z)⟩
theorem qkRep.pLn {s0 : Nat} {v : Nat → Int32} (R : qkRep g L J h A) (h0 : s0 < 3) : qkRep g L J (qc_up h (L (10 + s0)) (.inl (.inr (1, qkLine L s0 v)))) (sLn A (qkU (aLn A) s0 v)) :=
  ⟨⟨R.inj, gu_up R.gu, R.gj⟩, fun b e hb => by rw [qc_up_n (by intro z; rw [z, R.off _ (by omega)] at hb; cases hb)]; exact R.jh b e hb, R.off, R.im, by rw [qc_up_n (by intro z1; have := R.inj _ _ (by omega) (by omega) z1; omega)]; exact R.x,
   by rw [qc_up_n (by intro z1; have := R.inj _ _ (by omega) (by omega) z1; omega)]; exact R.lines,
   by rw [qc_up_n (by intro z1; have := R.inj _ _ (by omega) (by omega) z1; omega)]; exact R.srcs,
   by rw [qc_up_n (by intro z1; have := R.inj _ _ (by omega) (by omega) z1; omega)]; exact R.fbs,
   fun s hs => by rw [qc_up_n (by intro z1; have := R.inj _ _ (by omega) (by omega) z1; omega)]; exact R.fb hs,
   fun s hs => by
    by_cases n : s = s0
    · subst n; rw [qc_up_s, show aLn (sLn A (qkU (aLn A) s v)) s = v from qkU_s]
    · rw [qc_up_n (by intro z1; exact n (by have := R.inj _ _ (by omega) (by omega) z1; omega)), show aLn (sLn A (qkU (aLn A) s0 v)) s = aLn A s from qkU_n n]; exact R.line hs,
   fun s hs => by rw [qc_up_n (by intro z1; have := R.inj _ _ (by omega) (by omega) z1; omega)]; exact R.store hs,
   fun s hs => by rw [qc_up_n (by intro z1; have := R.inj _ _ (by omega) (by omega) z1; omega)]; exact R.src hs,
   fun s hs => (R.rows hs).mono (fun e z => by rw [qc_up_n (by intro z1; have := R.inj _ _ (by omega) (by omega) z1; omega)]; exact z) (fun _ _ z => z),
   fun s hs => (R.wr hs).mono (fun e z => by rw [qc_up_n (by intro z1; have := R.inj _ _ (by omega) (by omega) z1; omega)]; exact z) (fun _ _ z => z),
   R.msgs.mono (fun e z => by rw [qc_up_n (by intro z1; have := R.inj _ _ (by omega) (by omega) z1; omega)]; exact z) (fun _ _ z => z),
   R.cache.mono (fun e z => by rw [qc_up_n (by intro z1; have := R.inj _ _ (by omega) (by omega) z1; omega)]; exact z) (fun _ _ z => z),
   R.seats.mono (fun e z => by rw [qc_up_n (by intro z1; have := R.inj _ _ (by omega) (by omega) z1; omega)]; exact z) (fun _ _ z => z),
   R.links.mono (fun e z => by rw [qc_up_n (by intro z1; have := R.inj _ _ (by omega) (by omega) z1; omega)]; exact z) (fun _ _ z => z),
   R.conds.mono (fun e z => by rw [qc_up_n (by intro z1; have := R.inj _ _ (by omega) (by omega) z1; omega)]; exact z) (fun _ _ z => z),
   R.outs.mono (fun e z => by rw [qc_up_n (by intro z1; have := R.inj _ _ (by omega) (by omega) z1; omega)]; exact z) (fun _ _ z => z),
   R.bun.mono (fun e z => by rw [qc_up_n (by intro z1; have := R.inj _ _ (by omega) (by omega) z1; omega)]; exact z) (fun _ _ z => z)⟩
theorem qkRep.pSr {s0 : Nat} {v : Nat → Int32} (R : qkRep g L J h A) (h0 : s0 < 6) : qkRep g L J (qc_up h (L (16 + s0)) (.inl (.inr (6, qkSrc L s0 v)))) (sSr A (qkU (aSr A) s0 v)) :=
  ⟨⟨R.inj, gu_up R.gu, R.gj⟩, fun b e hb => by rw [qc_up_n (by intro z; rw [z, R.off _ (by omega)] at hb; cases hb)]; exact R.jh b e hb, R.off, R.im, by rw [qc_up_n (by intro z1; have := R.inj _ _ (by omega) (by omega) z1; omega)]; exact R.x,
   by rw [qc_up_n (by intro z1; have := R.inj _ _ (by omega) (by omega) z1; omega)]; exact R.lines,
   by rw [qc_up_n (by intro z1; have := R.inj _ _ (by omega) (by omega) z1; omega)]; exact R.srcs,
   by rw [qc_up_n (by intro z1; have := R.inj _ _ (by omega) (by omega) z1; omega)]; exact R.fbs,
   fun s hs => by rw [qc_up_n (by intro z1; have := R.inj _ _ (by omega) (by omega) z1; omega)]; exact R.fb hs,
   fun s hs => by rw [qc_up_n (by intro z1; have := R.inj _ _ (by omega) (by omega) z1; omega)]; exact R.line hs,
   fun s hs => by rw [qc_up_n (by intro z1; have := R.inj _ _ (by omega) (by omega) z1; omega)]; exact R.store hs,
   fun s hs => by
    by_cases n : s = s0
    · subst n; rw [qc_up_s, show aSr (sSr A (qkU (aSr A) s v)) s = v from qkU_s]
    · rw [qc_up_n (by intro z1; exact n (by have := R.inj _ _ (by omega) (by omega) z1; omega)), show aSr (sSr A (qkU (aSr A) s0 v)) s = aSr A s from qkU_n n]; exact R.src hs,
   fun s hs => (R.rows hs).mono (fun e z => by rw [qc_up_n (by intro z1; have := R.inj _ _ (by omega) (by omega) z1; omega)]; exact z) (fun _ _ z => z),
   fun s hs => (R.wr hs).mono (fun e z => by rw [qc_up_n (by intro z1; have := R.inj _ _ (by omega) (by omega) z1; omega)]; exact z) (fun _ _ z => z),
   R.msgs.mono (fun e z => by rw [qc_up_n (by intro z1; have := R.inj _ _ (by omega) (by omega) z1; omega)]; exact z) (fun _ _ z => z),
   R.cache.mono (fun e z => by rw [qc_up_n (by intro z1; have := R.inj _ _ (by omega) (by omega) z1; omega)]; exact z) (fun _ _ z => z),
   R.seats.mono (fun e z => by rw [qc_up_n (by intro z1; have := R.inj _ _ (by omega) (by omega) z1; omega)]; exact z) (fun _ _ z => z),
   R.links.mono (fun e z => by rw [qc_up_n (by intro z1; have := R.inj _ _ (by omega) (by omega) z1; omega)]; exact z) (fun _ _ z => z),
   R.conds.mono (fun e z => by rw [qc_up_n (by intro z1; have := R.inj _ _ (by omega) (by omega) z1; omega)]; exact z) (fun _ _ z => z),
   R.outs.mono (fun e z => by rw [qc_up_n (by intro z1; have := R.inj _ _ (by omega) (by omega) z1; omega)]; exact z) (fun _ _ z => z),
   R.bun.mono (fun e z => by rw [qc_up_n (by intro z1; have := R.inj _ _ (by omega) (by omega) z1; omega)]; exact z) (fun _ _ z => z)⟩
theorem qkRep.pFb {s0 : Nat} {v : Nat → Int32} (R : qkRep g L J h A) (h0 : s0 < 6) : qkRep g L J (qc_up h (L (4 + s0)) (.inl (.inl (g.2.2.2.1 1, 3, .inl v)))) (sFb A (qkU (aFb A) s0 v)) :=
  ⟨⟨R.inj, gu_up R.gu, R.gj⟩, fun b e hb => by rw [qc_up_n (by intro z; rw [z, R.off _ (by omega)] at hb; cases hb)]; exact R.jh b e hb, R.off, R.im, by rw [qc_up_n (by intro z1; have := R.inj _ _ (by omega) (by omega) z1; omega)]; exact R.x,
   by rw [qc_up_n (by intro z1; have := R.inj _ _ (by omega) (by omega) z1; omega)]; exact R.lines,
   by rw [qc_up_n (by intro z1; have := R.inj _ _ (by omega) (by omega) z1; omega)]; exact R.srcs,
   by rw [qc_up_n (by intro z1; have := R.inj _ _ (by omega) (by omega) z1; omega)]; exact R.fbs,
   fun s hs => by
    by_cases n : s = s0
    · subst n; rw [qc_up_s, show aFb (sFb A (qkU (aFb A) s v)) s = v from qkU_s]
    · rw [qc_up_n (by intro z1; exact n (by have := R.inj _ _ (by omega) (by omega) z1; omega)), show aFb (sFb A (qkU (aFb A) s0 v)) s = aFb A s from qkU_n n]; exact R.fb hs,
   fun s hs => by rw [qc_up_n (by intro z1; have := R.inj _ _ (by omega) (by omega) z1; omega)]; exact R.line hs,
   fun s hs => by rw [qc_up_n (by intro z1; have := R.inj _ _ (by omega) (by omega) z1; omega)]; exact R.store hs,
   fun s hs => by rw [qc_up_n (by intro z1; have := R.inj _ _ (by omega) (by omega) z1; omega)]; exact R.src hs,
   fun s hs => (R.rows hs).mono (fun e z => by rw [qc_up_n (by intro z1; have := R.inj _ _ (by omega) (by omega) z1; omega)]; exact z) (fun _ _ z => z),
   fun s hs => (R.wr hs).mono (fun e z => by rw [qc_up_n (by intro z1; have := R.inj _ _ (by omega) (by omega) z1; omega)]; exact z) (fun _ _ z => z),
   R.msgs.mono (fun e z => by rw [qc_up_n (by intro z1; have := R.inj _ _ (by omega) (by omega) z1; omega)]; exact z) (fun _ _ z => z),
   R.cache.mono (fun e z => by rw [qc_up_n (by intro z1; have := R.inj _ _ (by omega) (by omega) z1; omega)]; exact z) (fun _ _ z => z),
   R.seats.mono (fun e z => by rw [qc_up_n (by intro z1; have := R.inj _ _ (by omega) (by omega) z1; omega)]; exact z) (fun _ _ z => z),
   R.links.mono (fun e z => by rw [qc_up_n (by intro z1; have := R.inj _ _ (by omega) (by omega) z1; omega)]; exact z) (fun _ _ z => z),
   R.conds.mono (fun e z => by rw [qc_up_n (by intro z1; have := R.inj _ _ (by omega) (by omega) z1; omega)]; exact z) (fun _ _ z => z),
   R.outs.mono (fun e z => by rw [qc_up_n (by intro z1; have := R.inj _ _ (by omega) (by omega) z1; omega)]; exact z) (fun _ _ z => z),
   R.bun.mono (fun e z => by rw [qc_up_n (by intro z1; have := R.inj _ _ (by omega) (by omega) z1; omega)]; exact z) (fun _ _ z => z)⟩
theorem qkRep.pRow {s0 : Nat} {xs : List Nat} {v : List qkRow} (R : qkRep g L J h A) (h0 : s0 < 6) (hl : qkL (isRow g J) xs v) (hb : v.length ≤ 20000) : qkRep g L J (qc_up h (L (22 + s0)) (.inr xs)) (sRow A (qkU (aRow A) s0 v)) :=
  ⟨⟨R.inj, gu_up R.gu, R.gj⟩, fun b e hb => by rw [qc_up_n (by intro z; rw [z, R.off _ (by omega)] at hb; cases hb)]; exact R.jh b e hb, R.off, R.im, by rw [qc_up_n (by intro z1; have := R.inj _ _ (by omega) (by omega) z1; omega)]; exact R.x,
   by rw [qc_up_n (by intro z1; have := R.inj _ _ (by omega) (by omega) z1; omega)]; exact R.lines,
   by rw [qc_up_n (by intro z1; have := R.inj _ _ (by omega) (by omega) z1; omega)]; exact R.srcs,
   by rw [qc_up_n (by intro z1; have := R.inj _ _ (by omega) (by omega) z1; omega)]; exact R.fbs,
   fun s hs => by rw [qc_up_n (by intro z1; have := R.inj _ _ (by omega) (by omega) z1; omega)]; exact R.fb hs,
   fun s hs => by rw [qc_up_n (by intro z1; have := R.inj _ _ (by omega) (by omega) z1; omega)]; exact R.line hs,
   fun s hs => by rw [qc_up_n (by intro z1; have := R.inj _ _ (by omega) (by omega) z1; omega)]; exact R.store hs,
   fun s hs => by rw [qc_up_n (by intro z1; have := R.inj _ _ (by omega) (by omega) z1; omega)]; exact R.src hs,
   fun s hs => by
    by_cases n : s = s0
    · subst n; exact ⟨_, qc_up_s, by rw [show aRow (sRow A (qkU (aRow A) s v)) s = v from qkU_s]; exact hl, by rw [show aRow (sRow A (qkU (aRow A) s v)) s = v from qkU_s]; exact hb⟩
    · rw [show aRow (sRow A (qkU (aRow A) s0 v)) s = aRow A s from qkU_n n]; exact (R.rows hs).mono (fun e z => by rw [qc_up_n (by intro z1; exact n (by have := R.inj _ _ (by omega) (by omega) z1; omega))]; exact z) (fun _ _ z => z),
   fun s hs => (R.wr hs).mono (fun e z => by rw [qc_up_n (by intro z1; have := R.inj _ _ (by omega) (by omega) z1; omega)]; exact z) (fun _ _ z => z),
   R.msgs.mono (fun e z => by rw [qc_up_n (by intro z1; have := R.inj _ _ (by omega) (by omega) z1; omega)]; exact z) (fun _ _ z => z),
   R.cache.mono (fun e z => by rw [qc_up_n (by intro z1; have := R.inj _ _ (by omega) (by omega) z1; omega)]; exact z) (fun _ _ z => z),
   R.seats.mono (fun e z => by rw [qc_up_n (by intro z1; have := R.inj _ _ (by omega) (by omega) z1; omega)]; exact z) (fun _ _ z => z),
   R.links.mono (fun e z => by rw [qc_up_n (by intro z1; have := R.inj _ _ (by omega) (by omega) z1; omega)]; exact z) (fun _ _ z => z),
   R.conds.mono (fun e z => by rw [qc_up_n (by intro z1; have := R.inj _ _ (by omega) (by omega) z1; omega)]; exact z) (fun _ _ z => z),
   R.outs.mono (fun e z => by rw [qc_up_n (by intro z1; have := R.inj _ _ (by omega) (by omega) z1; omega)]; exact z) (fun _ _ z => z),
   R.bun.mono (fun e z => by rw [qc_up_n (by intro z1; have := R.inj _ _ (by omega) (by omega) z1; omega)]; exact z) (fun _ _ z => z)⟩
theorem qkRep.pWr {s0 : Nat} {xs : List Nat} {v : List Int32} (R : qkRep g L J h A) (h0 : s0 < 6) (hl : qkL (isInt J) xs v) (hb : v.length ≤ 20000) : qkRep g L J (qc_up h (L (28 + s0)) (.inr xs)) (sWr A (qkU (aWr A) s0 v)) :=
  ⟨⟨R.inj, gu_up R.gu, R.gj⟩, fun b e hb => by rw [qc_up_n (by intro z; rw [z, R.off _ (by omega)] at hb; cases hb)]; exact R.jh b e hb, R.off, R.im, by rw [qc_up_n (by intro z1; have := R.inj _ _ (by omega) (by omega) z1; omega)]; exact R.x,
   by rw [qc_up_n (by intro z1; have := R.inj _ _ (by omega) (by omega) z1; omega)]; exact R.lines,
   by rw [qc_up_n (by intro z1; have := R.inj _ _ (by omega) (by omega) z1; omega)]; exact R.srcs,
   by rw [qc_up_n (by intro z1; have := R.inj _ _ (by omega) (by omega) z1; omega)]; exact R.fbs,
   fun s hs => by rw [qc_up_n (by intro z1; have := R.inj _ _ (by omega) (by omega) z1; omega)]; exact R.fb hs,
   fun s hs => by rw [qc_up_n (by intro z1; have := R.inj _ _ (by omega) (by omega) z1; omega)]; exact R.line hs,
   fun s hs => by rw [qc_up_n (by intro z1; have := R.inj _ _ (by omega) (by omega) z1; omega)]; exact R.store hs,
   fun s hs => by rw [qc_up_n (by intro z1; have := R.inj _ _ (by omega) (by omega) z1; omega)]; exact R.src hs,
   fun s hs => (R.rows hs).mono (fun e z => by rw [qc_up_n (by intro z1; have := R.inj _ _ (by omega) (by omega) z1; omega)]; exact z) (fun _ _ z => z),
   fun s hs => by
    by_cases n : s = s0
    · subst n; exact ⟨_, qc_up_s, by rw [show aWr (sWr A (qkU (aWr A) s v)) s = v from qkU_s]; exact hl, by rw [show aWr (sWr A (qkU (aWr A) s v)) s = v from qkU_s]; exact hb⟩
    · rw [show aWr (sWr A (qkU (aWr A) s0 v)) s = aWr A s from qkU_n n]; exact (R.wr hs).mono (fun e z => by rw [qc_up_n (by intro z1; exact n (by have := R.inj _ _ (by omega) (by omega) z1; omega))]; exact z) (fun _ _ z => z),
   R.msgs.mono (fun e z => by rw [qc_up_n (by intro z1; have := R.inj _ _ (by omega) (by omega) z1; omega)]; exact z) (fun _ _ z => z),
   R.cache.mono (fun e z => by rw [qc_up_n (by intro z1; have := R.inj _ _ (by omega) (by omega) z1; omega)]; exact z) (fun _ _ z => z),
   R.seats.mono (fun e z => by rw [qc_up_n (by intro z1; have := R.inj _ _ (by omega) (by omega) z1; omega)]; exact z) (fun _ _ z => z),
   R.links.mono (fun e z => by rw [qc_up_n (by intro z1; have := R.inj _ _ (by omega) (by omega) z1; omega)]; exact z) (fun _ _ z => z),
   R.conds.mono (fun e z => by rw [qc_up_n (by intro z1; have := R.inj _ _ (by omega) (by omega) z1; omega)]; exact z) (fun _ _ z => z),
   R.outs.mono (fun e z => by rw [qc_up_n (by intro z1; have := R.inj _ _ (by omega) (by omega) z1; omega)]; exact z) (fun _ _ z => z),
   R.bun.mono (fun e z => by rw [qc_up_n (by intro z1; have := R.inj _ _ (by omega) (by omega) z1; omega)]; exact z) (fun _ _ z => z)⟩
theorem qkRep.pMsg {xs : List Nat} {v : List qkMsg} (R : qkRep g L J h A) (hl : qkL (isMsg J) xs v) (hb : v.length ≤ 20000) : qkRep g L J (qc_up h (L (34)) (.inr xs)) (sMsg A v) :=
  ⟨⟨R.inj, gu_up R.gu, R.gj⟩, fun b e hb => by rw [qc_up_n (by intro z; rw [z, R.off _ (by omega)] at hb; cases hb)]; exact R.jh b e hb, R.off, R.im, by rw [qc_up_n (by intro z1; have := R.inj _ _ (by omega) (by omega) z1; omega)]; exact R.x,
   by rw [qc_up_n (by intro z1; have := R.inj _ _ (by omega) (by omega) z1; omega)]; exact R.lines,
   by rw [qc_up_n (by intro z1; have := R.inj _ _ (by omega) (by omega) z1; omega)]; exact R.srcs,
   by rw [qc_up_n (by intro z1; have := R.inj _ _ (by omega) (by omega) z1; omega)]; exact R.fbs,
   fun s hs => by rw [qc_up_n (by intro z1; have := R.inj _ _ (by omega) (by omega) z1; omega)]; exact R.fb hs,
   fun s hs => by rw [qc_up_n (by intro z1; have := R.inj _ _ (by omega) (by omega) z1; omega)]; exact R.line hs,
   fun s hs => by rw [qc_up_n (by intro z1; have := R.inj _ _ (by omega) (by omega) z1; omega)]; exact R.store hs,
   fun s hs => by rw [qc_up_n (by intro z1; have := R.inj _ _ (by omega) (by omega) z1; omega)]; exact R.src hs,
   fun s hs => (R.rows hs).mono (fun e z => by rw [qc_up_n (by intro z1; have := R.inj _ _ (by omega) (by omega) z1; omega)]; exact z) (fun _ _ z => z),
   fun s hs => (R.wr hs).mono (fun e z => by rw [qc_up_n (by intro z1; have := R.inj _ _ (by omega) (by omega) z1; omega)]; exact z) (fun _ _ z => z),
   ⟨_, qc_up_s, hl, hb⟩,
   R.cache.mono (fun e z => by rw [qc_up_n (by intro z1; have := R.inj _ _ (by omega) (by omega) z1; omega)]; exact z) (fun _ _ z => z),
   R.seats.mono (fun e z => by rw [qc_up_n (by intro z1; have := R.inj _ _ (by omega) (by omega) z1; omega)]; exact z) (fun _ _ z => z),
   R.links.mono (fun e z => by rw [qc_up_n (by intro z1; have := R.inj _ _ (by omega) (by omega) z1; omega)]; exact z) (fun _ _ z => z),
   R.conds.mono (fun e z => by rw [qc_up_n (by intro z1; have := R.inj _ _ (by omega) (by omega) z1; omega)]; exact z) (fun _ _ z => z),
   R.outs.mono (fun e z => by rw [qc_up_n (by intro z1; have := R.inj _ _ (by omega) (by omega) z1; omega)]; exact z) (fun _ _ z => z),
   R.bun.mono (fun e z => by rw [qc_up_n (by intro z1; have := R.inj _ _ (by omega) (by omega) z1; omega)]; exact z) (fun _ _ z => z)⟩
theorem qkRep.pCache {xs : List Nat} {v : List qkEnt} (R : qkRep g L J h A) (hl : qkL (isEnt g L J) xs v) (hb : v.length ≤ 20000) : qkRep g L J (qc_up h (L (35)) (.inr xs)) (sCache A v) :=
  ⟨⟨R.inj, gu_up R.gu, R.gj⟩, fun b e hb => by rw [qc_up_n (by intro z; rw [z, R.off _ (by omega)] at hb; cases hb)]; exact R.jh b e hb, R.off, R.im, by rw [qc_up_n (by intro z1; have := R.inj _ _ (by omega) (by omega) z1; omega)]; exact R.x,
   by rw [qc_up_n (by intro z1; have := R.inj _ _ (by omega) (by omega) z1; omega)]; exact R.lines,
   by rw [qc_up_n (by intro z1; have := R.inj _ _ (by omega) (by omega) z1; omega)]; exact R.srcs,
   by rw [qc_up_n (by intro z1; have := R.inj _ _ (by omega) (by omega) z1; omega)]; exact R.fbs,
   fun s hs => by rw [qc_up_n (by intro z1; have := R.inj _ _ (by omega) (by omega) z1; omega)]; exact R.fb hs,
   fun s hs => by rw [qc_up_n (by intro z1; have := R.inj _ _ (by omega) (by omega) z1; omega)]; exact R.line hs,
   fun s hs => by rw [qc_up_n (by intro z1; have := R.inj _ _ (by omega) (by omega) z1; omega)]; exact R.store hs,
   fun s hs => by rw [qc_up_n (by intro z1; have := R.inj _ _ (by omega) (by omega) z1; omega)]; exact R.src hs,
   fun s hs => (R.rows hs).mono (fun e z => by rw [qc_up_n (by intro z1; have := R.inj _ _ (by omega) (by omega) z1; omega)]; exact z) (fun _ _ z => z),
   fun s hs => (R.wr hs).mono (fun e z => by rw [qc_up_n (by intro z1; have := R.inj _ _ (by omega) (by omega) z1; omega)]; exact z) (fun _ _ z => z),
   R.msgs.mono (fun e z => by rw [qc_up_n (by intro z1; have := R.inj _ _ (by omega) (by omega) z1; omega)]; exact z) (fun _ _ z => z),
   ⟨_, qc_up_s, hl, hb⟩,
   R.seats.mono (fun e z => by rw [qc_up_n (by intro z1; have := R.inj _ _ (by omega) (by omega) z1; omega)]; exact z) (fun _ _ z => z),
   R.links.mono (fun e z => by rw [qc_up_n (by intro z1; have := R.inj _ _ (by omega) (by omega) z1; omega)]; exact z) (fun _ _ z => z),
   R.conds.mono (fun e z => by rw [qc_up_n (by intro z1; have := R.inj _ _ (by omega) (by omega) z1; omega)]; exact z) (fun _ _ z => z),
   R.outs.mono (fun e z => by rw [qc_up_n (by intro z1; have := R.inj _ _ (by omega) (by omega) z1; omega)]; exact z) (fun _ _ z => z),
   R.bun.mono (fun e z => by rw [qc_up_n (by intro z1; have := R.inj _ _ (by omega) (by omega) z1; omega)]; exact z) (fun _ _ z => z)⟩
theorem qkRep.pSeat {xs : List Nat} {v : List Int32} (R : qkRep g L J h A) (hl : qkL (isInt J) xs v) (hb : v.length ≤ 20000) : qkRep g L J (qc_up h (L (36)) (.inr xs)) (sSeat A v) :=
  ⟨⟨R.inj, gu_up R.gu, R.gj⟩, fun b e hb => by rw [qc_up_n (by intro z; rw [z, R.off _ (by omega)] at hb; cases hb)]; exact R.jh b e hb, R.off, R.im, by rw [qc_up_n (by intro z1; have := R.inj _ _ (by omega) (by omega) z1; omega)]; exact R.x,
   by rw [qc_up_n (by intro z1; have := R.inj _ _ (by omega) (by omega) z1; omega)]; exact R.lines,
   by rw [qc_up_n (by intro z1; have := R.inj _ _ (by omega) (by omega) z1; omega)]; exact R.srcs,
   by rw [qc_up_n (by intro z1; have := R.inj _ _ (by omega) (by omega) z1; omega)]; exact R.fbs,
   fun s hs => by rw [qc_up_n (by intro z1; have := R.inj _ _ (by omega) (by omega) z1; omega)]; exact R.fb hs,
   fun s hs => by rw [qc_up_n (by intro z1; have := R.inj _ _ (by omega) (by omega) z1; omega)]; exact R.line hs,
   fun s hs => by rw [qc_up_n (by intro z1; have := R.inj _ _ (by omega) (by omega) z1; omega)]; exact R.store hs,
   fun s hs => by rw [qc_up_n (by intro z1; have := R.inj _ _ (by omega) (by omega) z1; omega)]; exact R.src hs,
   fun s hs => (R.rows hs).mono (fun e z => by rw [qc_up_n (by intro z1; have := R.inj _ _ (by omega) (by omega) z1; omega)]; exact z) (fun _ _ z => z),
   fun s hs => (R.wr hs).mono (fun e z => by rw [qc_up_n (by intro z1; have := R.inj _ _ (by omega) (by omega) z1; omega)]; exact z) (fun _ _ z => z),
   R.msgs.mono (fun e z => by rw [qc_up_n (by intro z1; have := R.inj _ _ (by omega) (by omega) z1; omega)]; exact z) (fun _ _ z => z),
   R.cache.mono (fun e z => by rw [qc_up_n (by intro z1; have := R.inj _ _ (by omega) (by omega) z1; omega)]; exact z) (fun _ _ z => z),
   ⟨_, qc_up_s, hl, hb⟩,
   R.links.mono (fun e z => by rw [qc_up_n (by intro z1; have := R.inj _ _ (by omega) (by omega) z1; omega)]; exact z) (fun _ _ z => z),
   R.conds.mono (fun e z => by rw [qc_up_n (by intro z1; have := R.inj _ _ (by omega) (by omega) z1; omega)]; exact z) (fun _ _ z => z),
   R.outs.mono (fun e z => by rw [qc_up_n (by intro z1; have := R.inj _ _ (by omega) (by omega) z1; omega)]; exact z) (fun _ _ z => z),
   R.bun.mono (fun e z => by rw [qc_up_n (by intro z1; have := R.inj _ _ (by omega) (by omega) z1; omega)]; exact z) (fun _ _ z => z)⟩
theorem qkRep.pLink {xs : List Nat} {v : List qkC} (R : qkRep g L J h A) (hl : qkL (isLink J) xs v) (hb : v.length ≤ 20000) : qkRep g L J (qc_up h (L (37)) (.inr xs)) (sLink A v) :=
  ⟨⟨R.inj, gu_up R.gu, R.gj⟩, fun b e hb => by rw [qc_up_n (by intro z; rw [z, R.off _ (by omega)] at hb; cases hb)]; exact R.jh b e hb, R.off, R.im, by rw [qc_up_n (by intro z1; have := R.inj _ _ (by omega) (by omega) z1; omega)]; exact R.x,
   by rw [qc_up_n (by intro z1; have := R.inj _ _ (by omega) (by omega) z1; omega)]; exact R.lines,
   by rw [qc_up_n (by intro z1; have := R.inj _ _ (by omega) (by omega) z1; omega)]; exact R.srcs,
   by rw [qc_up_n (by intro z1; have := R.inj _ _ (by omega) (by omega) z1; omega)]; exact R.fbs,
   fun s hs => by rw [qc_up_n (by intro z1; have := R.inj _ _ (by omega) (by omega) z1; omega)]; exact R.fb hs,
   fun s hs => by rw [qc_up_n (by intro z1; have := R.inj _ _ (by omega) (by omega) z1; omega)]; exact R.line hs,
   fun s hs => by rw [qc_up_n (by intro z1; have := R.inj _ _ (by omega) (by omega) z1; omega)]; exact R.store hs,
   fun s hs => by rw [qc_up_n (by intro z1; have := R.inj _ _ (by omega) (by omega) z1; omega)]; exact R.src hs,
   fun s hs => (R.rows hs).mono (fun e z => by rw [qc_up_n (by intro z1; have := R.inj _ _ (by omega) (by omega) z1; omega)]; exact z) (fun _ _ z => z),
   fun s hs => (R.wr hs).mono (fun e z => by rw [qc_up_n (by intro z1; have := R.inj _ _ (by omega) (by omega) z1; omega)]; exact z) (fun _ _ z => z),
   R.msgs.mono (fun e z => by rw [qc_up_n (by intro z1; have := R.inj _ _ (by omega) (by omega) z1; omega)]; exact z) (fun _ _ z => z),
   R.cache.mono (fun e z => by rw [qc_up_n (by intro z1; have := R.inj _ _ (by omega) (by omega) z1; omega)]; exact z) (fun _ _ z => z),
   R.seats.mono (fun e z => by rw [qc_up_n (by intro z1; have := R.inj _ _ (by omega) (by omega) z1; omega)]; exact z) (fun _ _ z => z),
   ⟨_, qc_up_s, hl, hb⟩,
   R.conds.mono (fun e z => by rw [qc_up_n (by intro z1; have := R.inj _ _ (by omega) (by omega) z1; omega)]; exact z) (fun _ _ z => z),
   R.outs.mono (fun e z => by rw [qc_up_n (by intro z1; have := R.inj _ _ (by omega) (by omega) z1; omega)]; exact z) (fun _ _ z => z),
   R.bun.mono (fun e z => by rw [qc_up_n (by intro z1; have := R.inj _ _ (by omega) (by omega) z1; omega)]; exact z) (fun _ _ z => z)⟩
theorem qkRep.pCond {xs : List Nat} {v : List qkC} (R : qkRep g L J h A) (hl : qkL (isCond J) xs v) (hb : v.length ≤ 20000) : qkRep g L J (qc_up h (L (38)) (.inr xs)) (sCond A v) :=
  ⟨⟨R.inj, gu_up R.gu, R.gj⟩, fun b e hb => by rw [qc_up_n (by intro z; rw [z, R.off _ (by omega)] at hb; cases hb)]; exact R.jh b e hb, R.off, R.im, by rw [qc_up_n (by intro z1; have := R.inj _ _ (by omega) (by omega) z1; omega)]; exact R.x,
   by rw [qc_up_n (by intro z1; have := R.inj _ _ (by omega) (by omega) z1; omega)]; exact R.lines,
   by rw [qc_up_n (by intro z1; have := R.inj _ _ (by omega) (by omega) z1; omega)]; exact R.srcs,
   by rw [qc_up_n (by intro z1; have := R.inj _ _ (by omega) (by omega) z1; omega)]; exact R.fbs,
   fun s hs => by rw [qc_up_n (by intro z1; have := R.inj _ _ (by omega) (by omega) z1; omega)]; exact R.fb hs,
   fun s hs => by rw [qc_up_n (by intro z1; have := R.inj _ _ (by omega) (by omega) z1; omega)]; exact R.line hs,
   fun s hs => by rw [qc_up_n (by intro z1; have := R.inj _ _ (by omega) (by omega) z1; omega)]; exact R.store hs,
   fun s hs => by rw [qc_up_n (by intro z1; have := R.inj _ _ (by omega) (by omega) z1; omega)]; exact R.src hs,
   fun s hs => (R.rows hs).mono (fun e z => by rw [qc_up_n (by intro z1; have := R.inj _ _ (by omega) (by omega) z1; omega)]; exact z) (fun _ _ z => z),
   fun s hs => (R.wr hs).mono (fun e z => by rw [qc_up_n (by intro z1; have := R.inj _ _ (by omega) (by omega) z1; omega)]; exact z) (fun _ _ z => z),
   R.msgs.mono (fun e z => by rw [qc_up_n (by intro z1; have := R.inj _ _ (by omega) (by omega) z1; omega)]; exact z) (fun _ _ z => z),
   R.cache.mono (fun e z => by rw [qc_up_n (by intro z1; have := R.inj _ _ (by omega) (by omega) z1; omega)]; exact z) (fun _ _ z => z),
   R.seats.mono (fun e z => by rw [qc_up_n (by intro z1; have := R.inj _ _ (by omega) (by omega) z1; omega)]; exact z) (fun _ _ z => z),
   R.links.mono (fun e z => by rw [qc_up_n (by intro z1; have := R.inj _ _ (by omega) (by omega) z1; omega)]; exact z) (fun _ _ z => z),
   ⟨_, qc_up_s, hl, hb⟩,
   R.outs.mono (fun e z => by rw [qc_up_n (by intro z1; have := R.inj _ _ (by omega) (by omega) z1; omega)]; exact z) (fun _ _ z => z),
   R.bun.mono (fun e z => by rw [qc_up_n (by intro z1; have := R.inj _ _ (by omega) (by omega) z1; omega)]; exact z) (fun _ _ z => z)⟩
theorem qkRep.pOut {xs : List Nat} {v : List qkOut} (R : qkRep g L J h A) (hl : qkL (isOut J) xs v) (hb : v.length ≤ 20000) : qkRep g L J (qc_up h (L (39)) (.inr xs)) (sOut A v) :=
  ⟨⟨R.inj, gu_up R.gu, R.gj⟩, fun b e hb => by rw [qc_up_n (by intro z; rw [z, R.off _ (by omega)] at hb; cases hb)]; exact R.jh b e hb, R.off, R.im, by rw [qc_up_n (by intro z1; have := R.inj _ _ (by omega) (by omega) z1; omega)]; exact R.x,
   by rw [qc_up_n (by intro z1; have := R.inj _ _ (by omega) (by omega) z1; omega)]; exact R.lines,
   by rw [qc_up_n (by intro z1; have := R.inj _ _ (by omega) (by omega) z1; omega)]; exact R.srcs,
   by rw [qc_up_n (by intro z1; have := R.inj _ _ (by omega) (by omega) z1; omega)]; exact R.fbs,
   fun s hs => by rw [qc_up_n (by intro z1; have := R.inj _ _ (by omega) (by omega) z1; omega)]; exact R.fb hs,
   fun s hs => by rw [qc_up_n (by intro z1; have := R.inj _ _ (by omega) (by omega) z1; omega)]; exact R.line hs,
   fun s hs => by rw [qc_up_n (by intro z1; have := R.inj _ _ (by omega) (by omega) z1; omega)]; exact R.store hs,
   fun s hs => by rw [qc_up_n (by intro z1; have := R.inj _ _ (by omega) (by omega) z1; omega)]; exact R.src hs,
   fun s hs => (R.rows hs).mono (fun e z => by rw [qc_up_n (by intro z1; have := R.inj _ _ (by omega) (by omega) z1; omega)]; exact z) (fun _ _ z => z),
   fun s hs => (R.wr hs).mono (fun e z => by rw [qc_up_n (by intro z1; have := R.inj _ _ (by omega) (by omega) z1; omega)]; exact z) (fun _ _ z => z),
   R.msgs.mono (fun e z => by rw [qc_up_n (by intro z1; have := R.inj _ _ (by omega) (by omega) z1; omega)]; exact z) (fun _ _ z => z),
   R.cache.mono (fun e z => by rw [qc_up_n (by intro z1; have := R.inj _ _ (by omega) (by omega) z1; omega)]; exact z) (fun _ _ z => z),
   R.seats.mono (fun e z => by rw [qc_up_n (by intro z1; have := R.inj _ _ (by omega) (by omega) z1; omega)]; exact z) (fun _ _ z => z),
   R.links.mono (fun e z => by rw [qc_up_n (by intro z1; have := R.inj _ _ (by omega) (by omega) z1; omega)]; exact z) (fun _ _ z => z),
   R.conds.mono (fun e z => by rw [qc_up_n (by intro z1; have := R.inj _ _ (by omega) (by omega) z1; omega)]; exact z) (fun _ _ z => z),
   ⟨_, qc_up_s, hl, hb⟩,
   R.bun.mono (fun e z => by rw [qc_up_n (by intro z1; have := R.inj _ _ (by omega) (by omega) z1; omega)]; exact z) (fun _ _ z => z)⟩
theorem qkRep.pBun {xs : List Nat} {v : List (Nat → Int32)} (R : qkRep g L J h A) (hl : qkL (isStep g J) xs v) (hb : v.length ≤ 20000) : qkRep g L J (qc_up h (L (40)) (.inr xs)) (sBun A v) :=
  ⟨⟨R.inj, gu_up R.gu, R.gj⟩, fun b e hb => by rw [qc_up_n (by intro z; rw [z, R.off _ (by omega)] at hb; cases hb)]; exact R.jh b e hb, R.off, R.im, by rw [qc_up_n (by intro z1; have := R.inj _ _ (by omega) (by omega) z1; omega)]; exact R.x,
   by rw [qc_up_n (by intro z1; have := R.inj _ _ (by omega) (by omega) z1; omega)]; exact R.lines,
   by rw [qc_up_n (by intro z1; have := R.inj _ _ (by omega) (by omega) z1; omega)]; exact R.srcs,
   by rw [qc_up_n (by intro z1; have := R.inj _ _ (by omega) (by omega) z1; omega)]; exact R.fbs,
   fun s hs => by rw [qc_up_n (by intro z1; have := R.inj _ _ (by omega) (by omega) z1; omega)]; exact R.fb hs,
   fun s hs => by rw [qc_up_n (by intro z1; have := R.inj _ _ (by omega) (by omega) z1; omega)]; exact R.line hs,
   fun s hs => by rw [qc_up_n (by intro z1; have := R.inj _ _ (by omega) (by omega) z1; omega)]; exact R.store hs,
   fun s hs => by rw [qc_up_n (by intro z1; have := R.inj _ _ (by omega) (by omega) z1; omega)]; exact R.src hs,
   fun s hs => (R.rows hs).mono (fun e z => by rw [qc_up_n (by intro z1; have := R.inj _ _ (by omega) (by omega) z1; omega)]; exact z) (fun _ _ z => z),
   fun s hs => (R.wr hs).mono (fun e z => by rw [qc_up_n (by intro z1; have := R.inj _ _ (by omega) (by omega) z1; omega)]; exact z) (fun _ _ z => z),
   R.msgs.mono (fun e z => by rw [qc_up_n (by intro z1; have := R.inj _ _ (by omega) (by omega) z1; omega)]; exact z) (fun _ _ z => z),
   R.cache.mono (fun e z => by rw [qc_up_n (by intro z1; have := R.inj _ _ (by omega) (by omega) z1; omega)]; exact z) (fun _ _ z => z),
   R.seats.mono (fun e z => by rw [qc_up_n (by intro z1; have := R.inj _ _ (by omega) (by omega) z1; omega)]; exact z) (fun _ _ z => z),
   R.links.mono (fun e z => by rw [qc_up_n (by intro z1; have := R.inj _ _ (by omega) (by omega) z1; omega)]; exact z) (fun _ _ z => z),
   R.conds.mono (fun e z => by rw [qc_up_n (by intro z1; have := R.inj _ _ (by omega) (by omega) z1; omega)]; exact z) (fun _ _ z => z),
   R.outs.mono (fun e z => by rw [qc_up_n (by intro z1; have := R.inj _ _ (by omega) (by omega) z1; omega)]; exact z) (fun _ _ z => z),
   ⟨_, qc_up_s, hl, hb⟩⟩
end
