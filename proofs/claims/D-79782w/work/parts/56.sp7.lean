/-! SP 7: attempts and requests -/
set_option maxRecDepth 100000
/-- what isn't the component's own, nor among D, stays -/
def qkFx (L : Nat → Nat) (D : Nat → Prop) (h h' : qc_H) : Prop := ∀ a, qkF L a → ¬ D a → h a ≠ none → h' a = h a
theorem qkFx.rf {L : Nat → Nat} {D : Nat → Prop} {h : qc_H} : qkFx L D h h := fun _ _ _ _ => rfl
theorem qkFx.tr {L : Nat → Nat} {D : Nat → Prop} {h h' h'' : qc_H} (p : qkFx L D h h') (q : qkFx L D h' h'') : qkFx L D h h'' := fun a ha hd hn => by
  have e := p a ha hd hn
  rw [← e]
  exact q a ha hd (by rw [e]; exact hn)
theorem qkFr.x {L : Nat → Nat} {D : Nat → Prop} {h h' : qc_H} (p : qkFr L h h') : qkFx L D h h' := fun a ha _ hn => p a ha hn
theorem qkFx.up {L : Nat → Nat} {D : Nat → Prop} {h : qc_H} {a : Nat} {e : qc_E} (ha : D a) : qkFx L D h (qc_up h a e) := fun _ _ hd _ => qc_up_n (fun z => hd (by rw [z]; exact ha))
theorem qkFx.up2 {L : Nat → Nat} {D : Nat → Prop} {h h' : qc_H} {a : Nat} {e : qc_E} (p : qkFx L D h h') (ha : h a = none) : qkFx L D h (qc_up h' a e) := fun b hb hd hn => by
  rw [qc_up_n (by intro z; subst z; exact hn ha)]
  exact p b hb hd hn
theorem qkFx.le {L : Nat → Nat} {D D' : Nat → Prop} {h h' : qc_H} (p : qkFx L D h h') (hD : ∀ a, D a → h a ≠ none → D' a) : qkFx L D' h h' := fun a ha hd hn => p a ha (fun z => hd (hD a z hn)) hn
theorem qkFx.at {L : Nat → Nat} {D : Nat → Prop} {h h' : qc_H} {a : Nat} {e : qc_E} (p : qkFx L D h h') (ha : qkF L a) (hd : ¬ D a) (he : h a = some e) : h' a = some e := by
  rw [p a ha hd (by rw [he]; intro z; cases z)]
  exact he
/-- an answer's object: its lists, its scalars by field number -/
abbrev qkAn (rl tl : Nat) (f : Nat → Int32) : qc_E := .inl (.inr (5, [.ref rl, .ref tl, .int (f 2), .int (f 3), .int (f 4), .int (f 5), .int (f 6)]))
def kf_full (A : qkA) (l : Nat) : Bool := decide (aLn A l 8 = aQ A 15 / 10 ∧ ¬ aLn A l 9 < aLn A l 3)
def kf_wait (A : qkA) (l : Nat) : qkA := if kf_full A l = true then kf_goTo A ((aQ A 15 / 10 + 1) * 10) else A
def kf_late (A : qkA) (b d : Int32) : Bool := decide (¬ d = -1 ∧ ¬ aQ A 15 - b ≤ d)
def kf_use (A : qkA) (l : Nat) : qkA := kf_ln (kf_ln A l 9 (if aLn A l 8 = aQ A 15 / 10 then aLn A l 9 + 1 else 1)) l 8 (aQ A 15 / 10)
def kf_run (A : qkA) (l : Nat) : qkA := kf_goTo (kf_use A l) (aQ A 15 + aLn A l 1)
def kf_paid (f : Nat → Int32) (l : Nat) : Nat → Int32 := upd (upd f 5 (f 5 + 1)) 4 (f 4 + kf_fee l)
/-- 0: answered, 1: failed, 2: too late -/
def kf_attempt (A : qkA) (l : Nat) (b d : Int32) (f : Nat → Int32) : Nat × qkA × (Nat → Int32) :=
  if kf_late (kf_wait A l) b d = true then (2, kf_wait A l, f) else
  if aLn A l 6 ≤ 0 then (0, kf_run (kf_wait A l) l, kf_paid f l) else (1, kf_ln (kf_run (kf_wait A l) l) l 6 (aLn A l 6 - 1), kf_paid f l)
def kf_req (l : Nat) (b d : Int32) : Nat → qkA → (Nat → Int32) → Nat × qkA × (Nat → Int32)
  | 0, A, f => (2, A, f)
  | n + 1, A, f => if (kf_attempt A l b d f).1 = 1 then kf_req l b d n (kf_attempt A l b d f).2.1 (kf_attempt A l b d f).2.2 else kf_attempt A l b d f
section
variable {g : qh_G} {L : Nat → Nat} {J h : qc_H} {A : qkA} {c : Nat}
theorem kf_wait_ln {l j k : Nat} : aLn (kf_wait A l) j k = aLn A j k := by
  unfold kf_wait
  split <;> rfl
theorem kt_attempt {l an rl tl : Nat} {b d : Int32} {f : Nat → Int32} {K : qc_H → Prop} {KX : String → qc_H → Prop} (R : qkRep g L J h A) (hl : l < 3) (han : h an = some (qkAn rl tl f)) (haF : qkF L an) (haJ : J an = none) (hc : 7 ≤ c)
    (hk : ∀ h', qkRep g L J h' (kf_attempt A l b d f).2.1 → h' an = some (qkAn rl tl (kf_attempt A l b d f).2.2) → qkFx L (fun a => a = an) h h' → ((kf_attempt A l b d f).1 = 0 → K h') ∧ ((kf_attempt A l b d f).1 = 1 → KX "QueryHarbor$Failed" h') ∧ ((kf_attempt A l b d f).1 = 2 → KX "QueryHarbor$NoAnswer" h')) :
    T_X1_attempt g (L 0) (L (10 + l)) b d an h c K KX := by
  unfold T_X1_attempt
  refine ⟨_, aLn A l 8, R.line hl, rfl, _, aQ A 15, R.x, rfl, fun J7 hJ7 => ?_⟩
  -- behind the wait
  have go : ∀ h13, qkRep g L J h13 (kf_wait A l) → qkFr L h h13 → ((d = -1 → eI h13 (L (10 + l)) 1 8 (fun v15 => eI h13 (L 0) 0 15 (fun v16 => ∀ J19 : Int32 → Prop, (∀ (x20 : Int32), (eP h13 (L (10 + l)) 1 9 (.int x20) (fun h21 => eI h21 (L 0) 0 15 (fun v22 => eP h21 (L (10 + l)) 1 8 (.int (v22 / 10)) (fun h23 => eI h23 an 5 5 (fun v24 => eP h23 an 5 5 (.int (v24 + 1)) (fun h25 => eI h25 an 5 4 (fun v26 => eR h25 (L (10 + l)) 1 0 (fun v27 => U_fee g h25 v27 (fun r28 => eP h25 an 5 4 (.int (v26 + r28)) (fun h29 => eI h29 (L 0) 0 15 (fun v30 => eI h29 (L (10 + l)) 1 1 (fun v31 => eC h29 (L 0) 0 (T_X1_goTo g (L 0) (v30 + v31) h29 (fun h32 => eI h32 (L (10 + l)) 1 6 (fun v33 => (v33 ≤ 0 → K h32) ∧ (¬ v33 ≤ 0 → eI h32 (L (10 + l)) 1 6 (fun v35 => eP h32 (L (10 + l)) 1 6 (.int (v35 - 1)) (fun h36 => eTh c (KX "QueryHarbor$Failed" h36))))))))))))))))))) → J19 x20) → (¬ v15 = (v16 / 10) → J19 1) ∧ (v15 = (v16 / 10) → eI h13 (L (10 + l)) 1 9 (fun v18 => J19 (v18 + 1)))))) ∧ (¬ d = -1 → eI h13 (L 0) 0 15 (fun v37 => ((v37 - b) ≤ d → eI h13 (L (10 + l)) 1 8 (fun v39 => eI h13 (L 0) 0 15 (fun v40 => ∀ J43 : Int32 → Prop, (∀ (x44 : Int32), (eP h13 (L (10 + l)) 1 9 (.int x44) (fun h45 => eI h45 (L 0) 0 15 (fun v46 => eP h45 (L (10 + l)) 1 8 (.int (v46 / 10)) (fun h47 => eI h47 an 5 5 (fun v48 => eP h47 an 5 5 (.int (v48 + 1)) (fun h49 => eI h49 an 5 4 (fun v50 => eR h49 (L (10 + l)) 1 0 (fun v51 => U_fee g h49 v51 (fun r52 => eP h49 an 5 4 (.int (v50 + r52)) (fun h53 => eI h53 (L 0) 0 15 (fun v54 => eI h53 (L (10 + l)) 1 1 (fun v55 => eC h53 (L 0) 0 (T_X1_goTo g (L 0) (v54 + v55) h53 (fun h56 => eI h56 (L (10 + l)) 1 6 (fun v57 => (v57 ≤ 0 → K h56) ∧ (¬ v57 ≤ 0 → eI h56 (L (10 + l)) 1 6 (fun v59 => eP h56 (L (10 + l)) 1 6 (.int (v59 - 1)) (fun h60 => eTh c (KX "QueryHarbor$Failed" h60))))))))))))))))))) → J43 x44) → (¬ v39 = (v40 / 10) → J43 1) ∧ (v39 = (v40 / 10) → eI h13 (L (10 + l)) 1 9 (fun v42 => J43 (v42 + 1)))))) ∧ (¬ (v37 - b) ≤ d → eTh c (KX "QueryHarbor$NoAnswer" h13))))) := by
    intro h13 R1 F1
    generalize hA1 : kf_wait A l = A1 at R1 hk
    have hA16 : aLn A1 l 6 = aLn A l 6 := by rw [← hA1]; exact kf_wait_ln
    have han1 := F1.at haF han
    have body : kf_late A1 b d = false → ∀ J19 : Int32 → Prop, (∀ (x20 : Int32), (eP h13 (L (10 + l)) 1 9 (.int x20) (fun h21 => eI h21 (L 0) 0 15 (fun v22 => eP h21 (L (10 + l)) 1 8 (.int (v22 / 10)) (fun h23 => eI h23 an 5 5 (fun v24 => eP h23 an 5 5 (.int (v24 + 1)) (fun h25 => eI h25 an 5 4 (fun v26 => eR h25 (L (10 + l)) 1 0 (fun v27 => U_fee g h25 v27 (fun r28 => eP h25 an 5 4 (.int (v26 + r28)) (fun h29 => eI h29 (L 0) 0 15 (fun v30 => eI h29 (L (10 + l)) 1 1 (fun v31 => eC h29 (L 0) 0 (T_X1_goTo g (L 0) (v30 + v31) h29 (fun h32 => eI h32 (L (10 + l)) 1 6 (fun v33 => (v33 ≤ 0 → K h32) ∧ (¬ v33 ≤ 0 → eI h32 (L (10 + l)) 1 6 (fun v35 => eP h32 (L (10 + l)) 1 6 (.int (v35 - 1)) (fun h36 => eTh c (KX "QueryHarbor$Failed" h36))))))))))))))))))) → J19 x20) → J19 (if aLn A1 l 8 = aQ A1 15 / 10 then aLn A1 l 9 + 1 else 1) := by
      intro hlate J19 hJ19
      refine hJ19 _ (kl_put R1 hl (by omega) rfl fun h2 R2 F2 => ⟨_, aQ A1 15, R2.x, rfl, kl_put R2 hl (by omega) rfl fun h3 R3 F3 => ?_⟩)
      have han3 := F3.at haF (F2.at haF han1)
      refine ⟨_, f 5, han3, rfl, _, han3, by simp, _, f 4, qc_up_s, rfl, ?_⟩
      have R4 := R3.other (e := .inl (.inr (5, [.ref rl, .ref tl, .int (f 2), .int (f 3), .int (f 4), .int (f 5 + 1), .int (f 6)]))) haF haJ
      refine ⟨_, _, R4.line hl, rfl, kt_fee R4 hl ⟨_, qc_up_s, by simp, ?_⟩⟩
      simp only [qc_up_up]
      have R5 := R3.other (e := qkAn rl tl (kf_paid f l)) haF haJ
      have han5 : (qc_up h3 an (qkAn rl tl (kf_paid f l))) an = some (qkAn rl tl (kf_paid f l)) := qc_up_s
      have F5 : qkFx L (fun a => a = an) h (qc_up h3 an (qkAn rl tl (kf_paid f l))) := (((F1.tr F2).tr F3).x).tr (qkFx.up rfl)
      rw [show qc_up h3 an (Sum.inl (Sum.inr (5, ([Value.ref rl, Value.ref tl, Value.int (f 2), Value.int (f 3), Value.int (f 4), Value.int (f 5), Value.int (f 6)].set 5 (Value.int (f 5 + 1))).set 4 (Value.int (f 4 + kf_fee l))))) = qc_up h3 an (qkAn rl tl (kf_paid f l)) from rfl]
      generalize qc_up h3 an (qkAn rl tl (kf_paid f l)) = h5 at R5 han5 F5 ⊢
      refine ⟨_, aQ A1 15, R5.x, rfl, _, aLn A1 l 1, R5.line hl, ?_, ⟨_, R5.x⟩, kt_goTo R5 fun h6 R6 F6 => ?_⟩
      · show some (Value.int (qkU (qkU (aLn A1) l _) l _ l 1)) = _
        rw [qkU_s]
        show some (Value.int (upd (qkU (aLn A1) l _ l) 8 _ 1)) = _
        rw [qkU_s]
        rfl
      have R6' : qkRep g L J h6 (kf_run A1 l) := R6
      have han6 := F6.at haF han5
      have hl6 : aLn (kf_run A1 l) l 6 = aLn A l 6 := by
        show qkU (qkU (aLn A1) l _) l _ l 6 = _
        rw [qkU_s]
        show upd (qkU (aLn A1) l _ l) 8 _ 6 = _
        rw [qkU_s, ← hA16]
        rfl
      have hk6 := hk
      unfold kf_attempt at hk6
      rw [hA1, if_neg (by rw [hlate]; decide)] at hk6
      refine ⟨_, aLn A l 6, R6'.line hl, by rw [← hl6]; rfl, fun z => ?_, fun z => ?_⟩
      · rw [if_pos z] at hk6
        exact (hk6 h6 R6' han6 (F5.tr F6.x)).1 rfl
      · rw [if_neg z] at hk6
        refine ⟨_, aLn A l 6, R6'.line hl, by rw [← hl6]; rfl, kl_put R6' hl (by omega) rfl fun h7 R7 F7 => ⟨c - 7, by omega, ?_⟩⟩
        exact (hk6 h7 R7 (F7.at haF han6) ((F5.tr F6.x).tr F7.x)).2.1 rfl
    refine ⟨fun z => ⟨_, aLn A1 l 8, R1.line hl, rfl, _, aQ A1 15, R1.x, rfl, fun J19 hJ19 => ?_⟩, fun z => ⟨_, aQ A1 15, R1.x, rfl, fun z2 => ⟨_, aLn A1 l 8, R1.line hl, rfl, _, aQ A1 15, R1.x, rfl, fun J19 hJ19 => ?_⟩, fun z2 => ⟨c - 7, by omega, ?_⟩⟩⟩
    · have hb := body (by simp [kf_late, z]) J19 hJ19
      exact ⟨fun q => by rw [if_neg q] at hb; exact hb, fun q => ⟨_, aLn A1 l 9, R1.line hl, rfl, by rw [if_pos q] at hb; exact hb⟩⟩
    · have hb := body (by simp [kf_late, z2]) J19 hJ19
      exact ⟨fun q => by rw [if_neg q] at hb; exact hb, fun q => ⟨_, aLn A1 l 9, R1.line hl, rfl, by rw [if_pos q] at hb; exact hb⟩⟩
    · unfold kf_attempt at hk
      have hlate : kf_late A1 b d = true := by simp [kf_late, z, z2]
      rw [hA1, if_pos hlate] at hk
      exact (hk h13 R1 han1 F1.x).2.2 rfl
  -- full or not
  have no : kf_full A l = false → J7 0 := by
    intro hf
    refine hJ7 0 fun J12 hJ12 => ⟨fun _ => hJ12 h (go h ?_ qkFr.rf), fun z => absurd rfl z⟩
    unfold kf_wait
    rw [if_neg (by rw [hf]; decide)]
    exact R
  have yes : kf_full A l = true → J7 1 := by
    intro hf
    refine hJ7 1 fun J12 hJ12 => ⟨fun z => absurd z (by decide), fun _ => ⟨_, aQ A 15, R.x, rfl, ⟨_, R.x⟩, kt_goTo R fun h11 R11 F11 => hJ12 h11 (go h11 ?_ F11)⟩⟩
    unfold kf_wait
    rw [if_pos hf]
    exact R11
  refine ⟨fun z => no (by simp [kf_full, z]), fun z => ⟨_, aLn A l 9, R.line hl, rfl, _, aLn A l 3, R.line hl, rfl, fun z2 => no (by simp [kf_full, z2]), fun z2 => yes (by simp only [kf_full, decide_eq_true_eq]; exact ⟨z, z2⟩)⟩⟩
theorem kt_request {l an rl tl : Nat} {b d : Int32} {f : Nat → Int32} {K : qc_H → Prop} {KX : String → qc_H → Prop} (R : qkRep g L J h A) (hl : l < 3) (han : h an = some (qkAn rl tl f)) (haF : qkF L an) (haJ : J an = none) (hc : 28 ≤ c)
    (hk : ∀ h', qkRep g L J h' (kf_req l b d 3 A f).2.1 → h' an = some (qkAn rl tl (kf_req l b d 3 A f).2.2) → qkFx L (fun a => a = an) h h' → ((kf_req l b d 3 A f).1 = 0 → K h') ∧ (¬ (kf_req l b d 3 A f).1 = 0 → KX "QueryHarbor$NoAnswer" h')) :
    T_X1_request g (L 0) (L (10 + l)) b d an h c K KX := by
  unfold T_X1_request
  intro X hX
  have key : ∀ n k (x2 : Option Nat) h1 c1 A1 f1, k + n = 3 → 7 * n + 7 ≤ c1 → qkRep g L J h1 A1 → h1 an = some (qkAn rl tl f1) → qkFx L (fun a => a = an) h h1 → kf_req l b d n A1 f1 = kf_req l b d 3 A f → X x2 (nI k) h1 c1 := by
    intro n
    induction n with
    | zero =>
      intro k x2 h1 c1 A1 f1 hkn hc1 R1 ha1 F1 he
      refine hX _ _ _ _ ⟨fun _ => ⟨c1 - 7, by omega, ?_⟩, fun z => absurd (nI_le (show 3 ≤ k by omega) (by omega)) z⟩
      rw [← he] at hk
      exact (hk h1 R1 ha1 F1).2 (by show ¬ (2 : Nat) = 0; decide)
    | succ n ih =>
      intro k x2 h1 c1 A1 f1 hkn hc1 R1 ha1 F1 he
      refine hX _ _ _ _ ⟨fun z => absurd z (nI_ge (show k < 3 by omega) (by decide)), fun _ => ⟨⟨_, R1.x⟩, ek 7 (by omega) (kt_attempt R1 hl ha1 haF haJ (Nat.le_refl 7) fun h2 R2 ha2 F2 => ⟨fun z => ?_, fun z => Or.inl ⟨rfl, fun q => ?_⟩, fun z => Or.inr ⟨rfl, ?_⟩⟩)⟩⟩
      · rw [kf_req, if_neg (by rw [z]; decide)] at he
        rw [← he] at hk
        exact (hk h2 R2 ha2 (F1.tr F2)).1 z
      · rw [kf_req, if_pos z] at he
        rw [nI_1]
        exact ih (k + 1) _ h2 _ _ _ (by omega) (by omega) R2 ha2 (F1.tr F2) he
      · rw [kf_req, if_neg (by rw [z]; decide)] at he
        rw [← he] at hk
        exact (hk h2 R2 ha2 (F1.tr F2)).2 (by rw [z]; decide)
  exact key 3 0 none h c A f (by omega) (by omega) R han qkFx.rf rfl
end
