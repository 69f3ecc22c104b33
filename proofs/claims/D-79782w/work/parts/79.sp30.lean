/-! SP 30: a store asked for a step -/
set_option maxRecDepth 100000
def qkWb (k : Nat) (A : qkA) : Prop := (∀ s, s < 6 → (aWr A s).length ≤ k) ∧ (aMsg A).length ≤ k
theorem wb_tm {k : Nat} {A B : qkA} (h : qkWb k A) (p : qkTm A B) : qkWb k B := by
  obtain ⟨p1, p2, p3, p4, p5, p6, p7, p8, p9, p10, p11, p12, p13, p14⟩ := p
  exact ⟨fun s hs => by rw [p6]; exact h.1 s hs, Nat.le_trans p14.length_le h.2⟩
theorem wb_le {k l : Nat} {A : qkA} (h : qkWb k A) (hl : k ≤ l) : qkWb l A := ⟨fun s hs => Nat.le_trans (h.1 s hs) hl, Nat.le_trans h.2 hl⟩
theorem wb_written {k s0 : Nat} {A : qkA} (h : qkWb k A) : qkWb (k + 1) (kf_written A s0) := by
  unfold kf_written
  refine wb_tm (A := sMsg (sWr (sQ A (upd (aQ A) 14 (aQ A 14 + 1))) (qkU (aWr A) s0 (aWr A s0 ++ [aQ A 14 + 1]))) (aMsg A ++ [(nI s0, aQ A 15 + aLn A (s0 / 2) 2, aQ A 14 + 1)])) ⟨fun s hs => ?_, ?_⟩ qkTm.goTo
  · show (qkU (aWr A) s0 (aWr A s0 ++ [aQ A 14 + 1]) s).length ≤ k + 1
    by_cases e : s = s0
    · subst e
      rw [qkU_s, List.length_append]
      have := h.1 s hs
      show (aWr A s).length + 1 ≤ k + 1
      omega
    · rw [qkU_n e]
      exact Nat.le_succ_of_le (h.1 s hs)
  · show (aMsg A ++ [_]).length ≤ k + 1
    rw [List.length_append]
    have := h.2
    show (aMsg A).length + 1 ≤ k + 1
    omega
theorem wb_add {k : Nat} {A : qkA} {v a b c d : Int32} (h : qkWb k A) : qkWb (k + 1) (kf_add A v a b c d).2.2 := by
  unfold kf_add
  split
  · exact wb_le h (Nat.le_succ _)
  · split
    · exact wb_le h (Nat.le_succ _)
    · split
      · exact wb_le h (Nat.le_succ _)
      · exact wb_written (A := kf_add1 A v.toNatClampNeg a (kf_cell4 a b c d)) ⟨h.1, h.2⟩
theorem wb_change {k : Nat} {A : qkA} {v m col x : Int32} (h : qkWb k A) : qkWb (k + 1) (kf_change A v m col x).2.2 := by
  unfold kf_change
  split
  · exact wb_le h (Nat.le_succ _)
  · split
    · exact wb_le h (Nat.le_succ _)
    · split
      · exact wb_le h (Nat.le_succ _)
      · split
        · exact wb_le h (Nat.le_succ _)
        · split
          · exact wb_le h (Nat.le_succ _)
          · exact wb_written ⟨h.1, h.2⟩
theorem wb_remove {k : Nat} {A : qkA} {v m : Int32} (h : qkWb k A) : qkWb (k + 1) (kf_remove A v m).2.2 := by
  unfold kf_remove
  split
  · exact wb_le h (Nat.le_succ _)
  · split
    · exact wb_le h (Nat.le_succ _)
    · exact wb_written ⟨h.1, h.2⟩
theorem wb_done {k : Nat} {A : qkA} {f : Nat → Int32} (h : qkWb k A) : qkWb (k + 1) (kf_done A f).2 := by
  unfold kf_done
  split
  · split
    · exact wb_add h
    · exact wb_add h
  · split
    · split
      · exact wb_change h
      · exact wb_change h
    · split
      · exact wb_remove h
      · exact wb_remove h
theorem add_same {A : qkA} {v a b c d : Int32} (h : ¬ (kf_add A v a b c d).1 = 0) : (kf_add A v a b c d).2.2 = A := by
  revert h
  unfold kf_add
  split
  · exact fun _ => rfl
  · split
    · exact fun _ => rfl
    · split
      · exact fun _ => rfl
      · exact fun h => absurd rfl h
theorem change_same {A : qkA} {v m col x : Int32} (h : ¬ (kf_change A v m col x).1 = 0) : (kf_change A v m col x).2.2 = A := by
  revert h
  unfold kf_change
  split
  · exact fun _ => rfl
  · split
    · exact fun _ => rfl
    · split
      · exact fun _ => rfl
      · split
        · exact fun _ => rfl
        · split
          · exact fun _ => rfl
          · exact fun h => absurd rfl h
theorem remove_same {A : qkA} {v m : Int32} (h : ¬ (kf_remove A v m).1 = 0) : (kf_remove A v m).2.2 = A := by
  revert h
  unfold kf_remove
  split
  · exact fun _ => rfl
  · split
    · exact fun _ => rfl
    · exact fun h => absurd rfl h
theorem done_same {A : qkA} {f : Nat → Int32} (h : (kf_done A f).1 = none) : (kf_done A f).2 = A := by
  revert h
  unfold kf_done
  split
  · split
    · exact fun h => by cases h
    · rename_i q
      exact fun _ => add_same q
  · split
    · split
      · exact fun h => by cases h
      · rename_i q
        exact fun _ => change_same q
    · split
      · exact fun h => by cases h
      · rename_i q
        exact fun _ => remove_same q
def kf_isd (f : Nat → Int32) (l : Nat) : Nat → Option qkDone → (Nat → Int32) → qkA → Bool × Option qkDone × qkA
  | 0, own, _, A => (false, own, A)
  | m + 1, own, fa, A =>
    if (kf_attempt A l (aQ A 15) (-1) fa).1 = 0 then
      match own with
      | some d => (true, some d, (kf_attempt A l (aQ A 15) (-1) fa).2.1)
      | none => ((kf_done (kf_attempt A l (aQ A 15) (-1) fa).2.1 f).1.isSome, kf_done (kf_attempt A l (aQ A 15) (-1) fa).2.1 f)
    else match own with
      | some d => kf_isd f l m (some d) (kf_attempt A l (aQ A 15) (-1) fa).2.2 (kf_attempt A l (aQ A 15) (-1) fa).2.1
      | none => if aLn A l 7 = 0 then kf_isd f l m none (kf_attempt A l (aQ A 15) (-1) fa).2.2 (kf_attempt A l (aQ A 15) (-1) fa).2.1 else kf_isd f l m (kf_done (kf_attempt A l (aQ A 15) (-1) fa).2.1 f).1 (kf_attempt A l (aQ A 15) (-1) fa).2.2 (kf_done (kf_attempt A l (aQ A 15) (-1) fa).2.1 f).2
def kf_isDone (A : qkA) (f : Nat → Int32) : Bool × Option qkDone × qkA := kf_isd f ((f 1).toNatClampNeg / 2) 3 none kf_f0 A
