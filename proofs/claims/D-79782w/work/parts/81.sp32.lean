/-! SP 32: a bundle run -/
set_option maxRecDepth 100000
def kf_runF : List (Nat → Int32) → Nat → List qkDone → qkA → Int32 × List qkDone × qkA
  | [], _, ds, A => (-1, ds, A)
  | f :: t, k, ds, A => if (kf_isDone A f).1 = true then kf_runF t (k + 1) (ds ++ (kf_isDone A f).2.1.toList) (kf_isDone A f).2.2 else (nI k, ds ++ (kf_isDone A f).2.1.toList, (kf_isDone A f).2.2)
def kf_backs (ds : List qkDone) (A : qkA) : qkA := ds.foldr (fun d B => kf_back B d) A
def kf_runB (A : qkA) : Int32 × Int32 × qkA :=
  if (aBun A).length = 0 then (1, 0, A) else
  (0, (kf_runF (aBun A) 0 [] A).1, sBun (if (kf_runF (aBun A) 0 [] A).1 = -1 then (kf_runF (aBun A) 0 [] A).2.2 else kf_backs (kf_runF (aBun A) 0 [] A).2.1 (kf_runF (aBun A) 0 [] A).2.2) [])
theorem done_bun {A : qkA} {f : Nat → Int32} : aBun (kf_done A f).2 = aBun A := by
  have h1 : ∀ v a b c d, aBun (kf_add A v a b c d).2.2 = aBun A := by
    intro v a b c d
    unfold kf_add
    split
    · rfl
    · split
      · rfl
      · split
        · rfl
        · rfl
  have h2 : ∀ v m col x, aBun (kf_change A v m col x).2.2 = aBun A := by
    intro v m col x
    unfold kf_change
    split
    · rfl
    · split
      · rfl
      · split
        · rfl
        · split
          · rfl
          · split
            · rfl
            · rfl
  have h3 : ∀ v m, aBun (kf_remove A v m).2.2 = aBun A := by
    intro v m
    unfold kf_remove
    split
    · rfl
    · split
      · rfl
      · rfl
  unfold kf_done
  split
  · split
    · exact h1 _ _ _ _ _
    · exact h1 _ _ _ _ _
  · split
    · split
      · exact h2 _ _ _ _
      · exact h2 _ _ _ _
    · split
      · exact h3 _ _
      · exact h3 _ _
theorem isd_bun {f : Nat → Int32} {l : Nat} : ∀ {m : Nat} {own : Option qkDone} {fa : Nat → Int32} {A : qkA}, aBun (kf_isd f l m own fa A).2.2 = aBun A
  | 0, own, fa, A => by rw [kf_isd]
  | m + 1, some d, fa, A => by
    have t : aBun (kf_attempt A l (aQ A 15) (-1) fa).2.1 = aBun A := qkTm.attempt.tk.2.2.2.2.2.2.2.2.2.1
    rw [kf_isd]
    split
    · exact t
    · exact isd_bun.trans t
  | m + 1, none, fa, A => by
    have t : aBun (kf_attempt A l (aQ A 15) (-1) fa).2.1 = aBun A := qkTm.attempt.tk.2.2.2.2.2.2.2.2.2.1
    rw [kf_isd]
    split
    · exact done_bun.trans t
    · split
      · exact isd_bun.trans t
      · exact isd_bun.trans (done_bun.trans t)
theorem isd_wb {f : Nat → Int32} {l k : Nat} : ∀ {m : Nat} {own : Option qkDone} {fa : Nat → Int32} {A : qkA}, (own = none → qkWb k A) → qkWb (k + 1) A → qkWb (k + 1) (kf_isd f l m own fa A).2.2
  | 0, own, fa, A, h1, h2 => by rw [kf_isd]; exact h2
  | m + 1, some d, fa, A, h1, h2 => by
    have t : qkTm A (kf_attempt A l (aQ A 15) (-1) fa).2.1 := qkTm.attempt
    rw [kf_isd]
    split
    · exact wb_tm h2 t
    · exact isd_wb (fun z => by cases z) (wb_tm h2 t)
  | m + 1, none, fa, A, h1, h2 => by
    have t : qkTm A (kf_attempt A l (aQ A 15) (-1) fa).2.1 := qkTm.attempt
    have w := wb_tm (h1 rfl) t
    rw [kf_isd]
    split
    · exact wb_done w
    · split
      · exact isd_wb (fun _ => w) (wb_le w (Nat.le_succ _))
      · exact isd_wb (fun z => by rw [done_same z]; exact w) (wb_done w)
theorem back_wb {k : Nat} {A : qkA} {d : qkDone} (h : qkWb k A) : qkWb (k + 1) (kf_back A d) := by
  unfold kf_back
  refine wb_written ⟨fun s hs => ?_, ?_⟩
  · have : aWr (kf_redo (kf_undo A d) d) = aWr A := by
      unfold kf_redo kf_undo
      split <;> split <;> rfl
    rw [this]
    exact h.1 s hs
  · have : aMsg (kf_redo (kf_undo A d) d) = aMsg A := by
      unfold kf_redo kf_undo
      split <;> split <;> rfl
    rw [this]
    exact h.2
section
variable {g : qh_G} {L : Nat → Nat} {J h : qc_H} {A : qkA} {c : Nat}
/-- what was done is taken back, the last first -/
theorem kt_backs {al : Nat} {K : qc_H → Prop} {X : Int32 → qc_H → Nat → Prop} (halF : qkF L al) :
    ∀ (m : Nat) (ds rest : List qkDone) (A : qkA) (J h : qc_H) (c k0 : Nat), ds.length = m → qkRep g L J h A → qkR (isDn g L J) h al (ds ++ rest) → qkWb k0 A → k0 + m ≤ 600 → 1890 * m ≤ c → (∀ a d b, ds = a ++ d :: b → (∀ r, d.2.2 = some r → ∃ k, kf_at (aRow (kf_backs b A) d.1) r.1 = some k) ∧ (aRow (kf_backs b A) d.1).length ≤ 12) →
      (∀ (k : Nat) (h : qc_H) (c : Nat) (J : qc_H) (A : qkA) (d : qkDone) (p : Nat), qkRep g L J h A → isDn g L J p d → (∃ xs : List Nat, h al = some (.inr xs) ∧ xs.length ≤ 40000 ∧ xs[k]? = some p) → (∀ r, d.2.2 = some r → ∃ k, kf_at (aRow A d.1) r.1 = some k) → (aRow A d.1).length ≤ 12 → (∀ s, s < 6 → (aWr A s).length ≤ 600) → (aMsg A).length ≤ 600 → 1890 ≤ c → (∀ J' h', qkJs J J' → qkRep g L J' h' (kf_back A d) → qkFr L h h' → X (nI k - 1) h' (c - 1890)) → X (nI k) h c) →
      (∀ J' h' c', qkJs J J' → qkRep g L J' h' (kf_backs ds A) → qkFr L h h' → X (0 - 1) h' c') → X (nI m - 1) h c := by
  intro m
  induction m with
  | zero =>
    intro ds rest A J h c k0 hl R hal hw hk0 hc hpre hX hk
    have : ds = [] := List.length_eq_zero_iff.mp hl
    subst this
    exact hk J h c qkJs.rf R qkFr.rf
  | succ m ih =>
    intro ds rest A J h c k0 hl R hal hw hk0 hc hpre hX hk
    rw [nI_pred]
    obtain ⟨a, d, rfl⟩ : ∃ a d, ds = a ++ [d] := by
      refine ⟨ds.dropLast, ds.getLast (by intro z; rw [z] at hl; cases hl), ?_⟩
      exact (List.dropLast_concat_getLast _).symm
    have hal' : a.length = m := by rw [List.length_append] at hl; exact Nat.succ.inj hl
    have hal2 := hal
    obtain ⟨xs, x1, x2, x3⟩ := hal2
    obtain ⟨p, p1, p2⟩ := x2.get (i := m) (v := d) (by rw [List.append_assoc, List.getElem?_append_right (by omega), hal', Nat.sub_self]; rfl)
    obtain ⟨q1, q2⟩ := hpre a d [] rfl
    refine hX m h c J A d p R p2 ⟨xs, x1, by rw [x2.1]; omega, p1⟩ q1 q2 (fun s hs => Nat.le_trans (hw.1 s hs) (by omega)) (Nat.le_trans hw.2 (by omega)) (by omega) fun J1 h1 j1 R1 F1 => ?_
    refine ih a (d :: rest) (kf_back A d) J1 h1 _ (k0 + 1) hal' R1 ?_ (back_wb hw) (by omega) (by omega) (fun a' d' b' e => ?_) hX fun J2 h2 c2 j2 R2 F2 => hk J2 h2 c2 (j1.tr j2) ?_ (F1.tr F2)
    · have := hal.mono (h' := h1) (fun e z => by rw [F1 al halF (by rw [z]; intro y; cases y)]; exact z) (fun x v q => isDn.mono q j1.1)
      rw [List.append_assoc] at this
      exact this
    · have := hpre a' d' (b' ++ [d]) (by rw [e, List.append_assoc]; rfl)
      unfold kf_backs at this ⊢
      rw [List.foldr_append] at this
      exact this
    · unfold kf_backs at R2 ⊢
      rw [List.foldr_append]
      exact R2
end
