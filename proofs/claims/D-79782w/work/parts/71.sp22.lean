/-! SP 22: a question's seats made and taken -/
set_option maxRecDepth 100000
def kf_sno (A : qkA) (k : Nat) : Nat := ((aSeat A)[k]?.getD 0).toNatClampNeg
def kf_ss0 (A : qkA) (k : Nat) : qkSeat := (kf_sno A k, kf_own A (nI k), kf_sent A (nI k) (kf_sno A k), [], kf_sv0 (nI k))
section
variable {g : qh_G} {L : Nat → Nat} {J h : qc_H} {A : qkA} {c : Nat}
theorem hd_of {J' h' : qc_H} {A' : qkA} {D : Nat → Prop} (R' : qkRep g L J' h' A') (F : qkFx L D h h') (hD : ∀ a, D a → h' a ≠ none) : ∀ a, h' a = none → h a = none := by
  intro a z
  apply Classical.byContradiction
  intro q
  by_cases hF : qkF L a
  · by_cases hd : D a
    · exact hD a hd z
    · rw [F a hF hd q] at z
      exact q z
  · apply hF
    intro n hn e
    subst e
    exact R'.cell n hn z
theorem qkS1.mono {J' h' : qc_H} {se rl : Nat} {v : qkSeat} (S : qkS1 g L J h se rl v) (hJ : qkJ J J') (h1 : h' se = h se) (h2 : h' rl = h rl) : qkS1 g L J' h' se rl v := by
  obtain ⟨ol, sl, s1, s2, s3, s4, s5, s6⟩ := S
  exact ⟨ol, sl, by rw [h1]; exact s1, s2, s3.mono (fun e => hJ _ e) (isCond.mono hJ), s4.mono (fun e => hJ _ e) (isCond.mono hJ), s5.mono (fun e z => by rw [h2]; exact z) (isRow.mono hJ), s6⟩
theorem kt_seats {al n cc : Nat} {AFTER : qc_H → Nat → Prop} (R : qkRep g L J h A) (hn : (aSeat A).length = n) (hn3 : n ≤ 3) (hsrc : ∀ (k : Nat) (v : Int32), (aSeat A)[k]? = some v → ∃ s, s < 6 ∧ v = nI s) (hcl : (aCond A).length ≤ 4) (hal : h al = some (.inl (.inl (g.2.2.2.1 7, n, .inr (.inr (.inr (.inr (fun _ => none)))))))) (halF : qkF L al) (hc : 172 * n + cc ≤ c)
    (hk : ∀ (J' h' : qc_H) (c' : Nat) (sa rl : Nat → Nat), qkJw h J J' → qkRep g L J' h' A → qkSs g L J' h' al n sa rl (kf_ss0 A) → (∀ i, i < n → h' (rl i) = some (.inr []) ∧ qkF L (rl i) ∧ J' (rl i) = none ∧ h (rl i) = none ∧ h (sa i) = none) → (∀ i j, i < n → j < n → rl i = rl j → i = j) → qkFx L (fun a => a = al) h h' → (∀ a, h' a = none → h a = none) → cc ≤ c' → AFTER h' c') :
    ∀ X28 : Int32 → qc_H → Nat → Prop, (∀ (x29 : Int32) (h30 : qc_H) (c31 : Nat), (eT g.2.2.2.1 7 h30 al (fun v32 => (v32 ≤ x29 → AFTER h30 c31) ∧ (¬ v32 ≤ x29 → eN h30 c31 13 11 [.int 0, .null, .null, .null, .null, .int 0, .int 0, .int 0, .int 0, .int 0, .null] (fun w104 h105 c106 => eK c106 (fun c108 k107 => T_X14_init g w104 (L 0) x29 h105 k107 (fun h109 => eV g.2.2.2.1 7 13 h109 al x29 w104 (fun h110 => X28 (x29 + 1) h110 c108))))))) → X28 x29 h30 c31) → X28 0 h c := by
  intro X hX
  have key : ∀ (m k : Nat) (J1 h1 : qc_H) (c1 : Nat) (F : Nat → Option Nat) (sa rl : Nat → Nat), k + m = n → qkJw h J J1 → qkRep g L J1 h1 A → h1 al = some (.inl (.inl (g.2.2.2.1 7, n, .inr (.inr (.inr (.inr F)))))) → (∀ i, i < k → F i = some (sa i)) →
      (∀ i, i < k → qkS1 g L J1 h1 (sa i) (rl i) (kf_ss0 A i) ∧ h1 (rl i) = some (.inr []) ∧ qkF L (rl i) ∧ J1 (rl i) = none ∧ h (rl i) = none ∧ h (sa i) = none) → (∀ i j, i < k → j < k → sa i = sa j → i = j) → (∀ i j, i < k → j < k → rl i = rl j → i = j) → qkFx L (fun a => a = al) h h1 → (∀ a, h1 a = none → h a = none) → 172 * m + cc ≤ c1 → X (nI k) h1 c1 := by
    intro m
    induction m with
    | zero =>
      intro k J1 h1 c1 F sa rl hkm k1 R1 e1 hF hS i1 i2 F1 hd hc1
      have hkn : k = n := by omega
      subst hkn
      exact hX _ _ _ ⟨_, e1, fun _ => hk J1 h1 c1 sa rl k1 R1 ⟨hn3, ⟨F, e1, hF⟩, fun i hi => (hS i hi).1, i1⟩ (fun i hi => (hS i hi).2) i2 F1 hd (by omega), fun z => absurd (nI_le (Nat.le_refl _) (by omega)) z⟩
    | succ m ih =>
      intro k J1 h1 c1 F sa rl hkm k1 R1 e1 hF hS i1 i2 F1 hd hc1
      refine hX _ _ _ ⟨_, e1, fun z => absurd z (nI_ge (show k < n by omega) (by omega)), fun _ => ⟨c1 - 12, by omega, fun w hw => ?_⟩⟩
      have hwF := R1.fresh hw
      have hwJ := R1.Jn hw
      have R2 := R1.other (e := .inl (.inr (13, [.int 0, .null, .null, .null, .null, .int 0, .int 0, .int 0, .int 0, .int 0, .null]))) hwF hwJ
      have hkl : k < (aSeat A).length := by omega
      obtain ⟨s, hs, hsv⟩ := hsrc k _ (List.getElem?_eq_getElem hkl)
      have hget : (aSeat A)[k]? = some (nI s) := by rw [List.getElem?_eq_getElem hkl, hsv]
      have hks : kf_sno A k = s := by
        unfold kf_sno
        rw [hget]
        exact nI_clamp (by omega)
      have hes : kf_ss0 A k = (s, kf_own A (nI k), kf_sent A (nI k) s, [], kf_sv0 (nI k)) := by
        unfold kf_ss0
        rw [hks]
      have ne : ∀ {a : Nat} {e : qc_E}, h1 a = some e → a ≠ w := fun z q => by
        rw [q, hw] at z
        cases z
      have up1 : ∀ {a : Nat} {e : qc_E}, h1 a = some e → (qc_up h1 w (.inl (.inr (13, [.int 0, .null, .null, .null, .null, .int 0, .int 0, .int 0, .int 0, .int 0, .null]))) : qc_H) a = some e := fun z => by rw [qc_up_n (ne z)]; exact z
      have up0 : ∀ a, (qc_up h1 w (.inl (.inr (13, [.int 0, .null, .null, .null, .null, .int 0, .int 0, .int 0, .int 0, .int 0, .null]))) : qc_H) a = none → h1 a = none := fun a z => by
        by_cases q : a = w
        · rw [q]; exact hw
        · rw [qc_up_n q] at z; exact z
      have hw2 : (qc_up h1 w (.inl (.inr (13, [.int 0, .null, .null, .null, .null, .int 0, .int 0, .int 0, .int 0, .int 0, .null]))) : qc_H) w = some _ := qc_up_s
      have F12 : qkFx L (fun a => a = al) h (qc_up h1 w (.inl (.inr (13, [.int 0, .null, .null, .null, .null, .int 0, .int 0, .int 0, .int 0, .int 0, .null])))) := F1.up2 (hd w hw)
      change eK (c1 - 12) (fun c108 k107 => T_X14_init g w (L 0) (nI k) (qc_up h1 w (.inl (.inr (13, [.int 0, .null, .null, .null, .null, .int 0, .int 0, .int 0, .int 0, .int 0, .null])))) k107 _)
      generalize qc_up h1 w (.inl (.inr (13, [.int 0, .null, .null, .null, .null, .int 0, .int 0, .int 0, .int 0, .int 0, .null]))) = h2 at R2 up1 up0 hw2 F12 ⊢
      refine ek 160 (by omega) (kt_seatInit R2 hw2 hwF hwJ hget hs hcl (Nat.le_refl _) fun J3 h3 ol sl rl3 k3 R3 hw3 ho3 hs3 hr3 hrn hrF hrJ hwJ3 F3 => ?_)
      have hal3 : h3 al = some (.inl (.inl (g.2.2.2.1 7, n, .inr (.inr (.inr (.inr F)))))) := F3.at halF (ne e1) (up1 e1)
      refine ⟨n, F, _, hal3, hw3, vp_in_nI (by omega) (by omega), ?_⟩
      rw [nI_clamp (by omega), nI_1]
      have hwal : w ≠ al := (ne e1).symm
      have hr1 : h1 rl3 = none := up0 rl3 hrn
      have hral : rl3 ≠ al := fun z => by
        rw [z, e1] at hr1
        cases hr1
      have keep : ∀ {a : Nat} {e : qc_E}, h1 a = some e → qkF L a → a ≠ al → (qc_up h3 al (.inl (.inl (g.2.2.2.1 7, n, .inr (.inr (.inr (.inr (va_up F k (some w)))))))) : qc_H) a = some e := fun z zF za => by
        rw [qc_up_n za]
        exact F3.at zF (ne z) (up1 z)
      have h3n : ∀ a, h3 a = none → h1 a = none := fun a z => up0 a (hd_of R3 F3 (fun b q => by rw [q, hw3]; intro z; cases z) a z)
      have F13 : qkFx L (fun a => a = al) h h3 := fun a ha hda hn0 => by
        have e := F12 a ha hda hn0
        rw [F3 a ha (fun z => hn0 (by rw [show a = w from z]; exact hd w hw)) (by rw [e]; exact hn0), e]
      have sne : ∀ i, i < k → sa i ≠ al ∧ qkF L (sa i) ∧ (∃ e, h1 (sa i) = some e) ∧ rl i ≠ al := fun i hi => by
        obtain ⟨⟨ol, sl, s1, s2, s3, s4, s5, s6⟩, t1, t2⟩ := hS i hi
        refine ⟨fun z => ?_, s6, ⟨_, s1⟩, fun z => ?_⟩
        · rw [z, e1] at s1
          cases s1
        · rw [z, e1] at t1
          cases t1
      refine ih (k + 1) J3 _ _ (va_up F k (some w)) (qkU sa k w) (qkU rl k rl3) (by omega) (k1.tr k3 fun a z => hd a (up0 a z)) (R3.other halF (R3.mua hal3)) qc_up_s (fun i hi => ?_) (fun i hi => ?_) (fun i j hi hj e => ?_) (fun i j hi hj e => ?_) (F13.tr (qkFx.up rfl)) (fun a z => ?_) (by omega)
      · by_cases e : i = k
        · subst e
          rw [qkU_s]
          exact if_pos rfl
        · rw [qkU_n e, show va_up F k (some w) i = F i from if_neg e]
          exact hF i (by omega)
      · by_cases e : i = k
        · subst e
          rw [qkU_s, qkU_s, hes]
          have e4 : (qc_up h3 al (.inl (.inl (g.2.2.2.1 7, n, .inr (.inr (.inr (.inr (va_up F i (some w)))))))) : qc_H) rl3 = some (.inr []) := by rw [qc_up_n hral]; exact hr3
          exact ⟨⟨ol, sl, by rw [qc_up_n hwal]; exact hw3, hs, ho3, hs3, ⟨[], e4, qkL.nil, Nat.zero_le _⟩, hwF⟩, e4, hrF, hrJ, hd _ hr1, hd w hw⟩
        · rw [qkU_n e, qkU_n e]
          obtain ⟨t0, t1, t2, t3, t4, t5⟩ := hS i (by omega)
          obtain ⟨u1, u2, ⟨e', u3⟩, u4⟩ := sne i (by omega)
          have v1 := keep t1 t2 u4
          refine ⟨t0.mono k3.1 (by rw [keep u3 u2 u1, u3]) (by rw [v1, t1]), v1, t2, ?_, t4, t5⟩
          exact k3.at R3.jh (by rw [up1 t1]; intro z; cases z) t3 (F3.at t2 (ne t1) (up1 t1))
      · by_cases e1' : i = k
        · by_cases e2 : j = k
          · rw [e1', e2]
          · subst e1'
            rw [qkU_s, qkU_n e2] at e
            obtain ⟨u1, u2, ⟨e', u3⟩, u4⟩ := sne j (by omega)
            rw [← e, hw] at u3
            cases u3
        · by_cases e2 : j = k
          · subst e2
            rw [qkU_s, qkU_n e1'] at e
            obtain ⟨u1, u2, ⟨e', u3⟩, u4⟩ := sne i (by omega)
            rw [e, hw] at u3
            cases u3
          · rw [qkU_n e1', qkU_n e2] at e
            exact i1 i j (by omega) (by omega) e
      · by_cases e1' : i = k
        · by_cases e2 : j = k
          · rw [e1', e2]
          · subst e1'
            rw [qkU_s, qkU_n e2] at e
            have t1 := (hS j (by omega)).2.1
            rw [← e, hr1] at t1
            cases t1
        · by_cases e2 : j = k
          · subst e2
            rw [qkU_s, qkU_n e1'] at e
            have t1 := (hS i (by omega)).2.1
            rw [e, hr1] at t1
            cases t1
          · rw [qkU_n e1', qkU_n e2] at e
            exact i2 i j (by omega) (by omega) e
      · apply hd a
        apply h3n a
        by_cases q : a = al
        · rw [q, qc_up_s] at z
          cases z
        · rw [qc_up_n q] at z
          exact z
  exact key n 0 J h c _ (fun _ => 0) (fun _ => 0) (by omega) qkJw.rf R hal (fun i hi => absurd hi (Nat.not_lt_zero i)) (fun i hi => absurd hi (Nat.not_lt_zero i)) (fun i j hi => absurd hi (Nat.not_lt_zero i)) (fun i j hi => absurd hi (Nat.not_lt_zero i)) qkFx.rf (fun _ z => z) hc
end
