/-! SP 31: isDone -/
set_option maxRecDepth 100000
section
variable {g : qh_G} {L : Nat → Nat} {J h : qc_H} {A : qkA} {c : Nat}
theorem kt_tryDone {p al k0 : Nat} {f : Nat → Int32} {ds : List qkDone} {J64 : Option Nat → qc_H → Nat → Prop} (R : qkRep g L J h A) (hp : isStep g J p f) (hs1 : ∃ s, s < 6 ∧ f 1 = nI s) (hal : qkR (isDn g L J) h al ds) (halF : qkF L al) (halJ : J al = none) (hdl : ds.length ≤ 3) (hw : qkWb k0 A) (hk0 : k0 ≤ 600) (hc : 2025 ≤ c)
    (hk : ∀ J' h' c' o, qkJs J J' → qkRep g L J' h' (kf_done A f).2 → qkR (isDn g L J') h' al (ds ++ (kf_done A f).1.toList) → J' al = none → qkFx L (fun a => a = al) h h' → ((kf_done A f).1 = none → o = none) → (∀ d, (kf_done A f).1 = some d → ∃ q, o = some q) → ((kf_done A f).1 = none → c' = c - 105) → ((kf_done A f).1 ≠ none → c - 2025 ≤ c') → J64 o h' c') :
    eK c (fun c57 k56 => T_X1_done g (L 0) p h k56 (fun r58 h59 => (r58 = none → J64 none h59 c57) ∧ (∀ y60, r58 = some y60 → eAd g h59 al y60 c57 (fun h62 c63 => J64 (some y60) h62 c63)))) := by
  have hwl : ∀ s, s < 6 → (aWr A s).length ≤ 600 := fun s hs => Nat.le_trans (hw.1 s hs) hk0
  have hml : (aMsg A).length ≤ 600 := Nat.le_trans hw.2 hk0
  have keep : ∀ {h1 : qc_H} {J1 : qc_H}, qkFr L h h1 → qkJs J J1 → qkR (isDn g L J1) h1 al ds := fun F j => hal.mono (fun e z => by rw [F al halF (by rw [z]; intro y; cases y)]; exact z) (fun x v q => q.mono j.1)
  have alJ : ∀ {h1 : qc_H} {J1 : qc_H} {A1 : qkA}, qkFr L h h1 → qkJs J J1 → qkRep g L J1 h1 A1 → J1 al = none := fun {h1 J1 A1} F j R1 => by
    obtain ⟨xs, x1, -⟩ := hal
    exact (j.w (h := h)).at R1.jh (by rw [x1]; intro z; cases z) halJ (by rw [F al halF (by rw [x1]; intro y; cases y)]; exact x1)
  cases hdn : (kf_done A f).1 with
  | none =>
    refine ek 105 (by omega) (kt_done (e0 := 0) R hp hs1 hwl hml (fun z => absurd hdn z) (Nat.le_refl _) fun J1 h1 o j1 F1 R1 o1 o2 => ⟨fun _ => hk J1 h1 _ none j1 R1 ?_ (alJ F1 j1 R1) F1.x (fun _ => rfl) (fun d hd => by rw [hdn] at hd; cases hd) (fun _ => rfl) (fun z => absurd hdn z), fun y hy => by rw [o1 hdn] at hy; cases hy⟩)
    rw [hdn]
    show qkR _ h1 al (ds ++ [])
    rw [List.append_nil]
    exact keep F1 j1
  | some d =>
    refine ek 2005 (by omega) (kt_done (e0 := 1900) R hp hs1 hwl hml (fun _ => rfl) (Nat.le_refl _) fun J1 h1 o j1 F1 R1 o1 o2 => ?_)
    obtain ⟨q, hq, dq⟩ := o2 d hdn
    refine ⟨fun z => (by rw [hq] at z; cases z), fun y hy => ?_⟩
    rw [hq] at hy
    cases hy
    have dq' := dq
    obtain ⟨d1, bo, ao, d2, d3, d4⟩ := dq'
    refine rl_add (w := d) (keep F1 j1) (R1.jh _ _ d2) (Or.inr (Or.inr (Or.inr (Or.inr (Or.inr (Or.inr (Or.inl rfl))))))) dq (by omega) fun xs hxs => ?_
    refine hk J1 _ _ (some q) j1 (R1.other halF (alJ F1 j1 R1)) ?_ (alJ F1 j1 R1) (F1.x.tr (qkFx.up rfl)) (fun z => by rw [hdn] at z; cases z) (fun d' _ => ⟨q, rfl⟩) (fun z => by rw [hdn] at z; cases z) (fun _ => by omega)
    rw [hdn]
    exact ⟨xs, qc_up_s, hxs, by rw [List.length_append]; show ds.length + 1 ≤ _; omega⟩
theorem fx_fresh {D : Nat → Prop} {h0 h1 h2 : qc_H} {an : Nat} (F : qkFx L D h0 h1) (F2 : qkFx L (fun a => a = an) h1 h2) (hn : h0 an = none) : qkFx L D h0 h2 := fun a ha hd h0n => by
  have e := F a ha hd h0n
  rw [F2 a ha (fun z => h0n (by rw [show a = an from z]; exact hn)) (by rw [e]; exact h0n), e]
theorem half_s : ∀ s, s < 6 → nI s / 2 = nI (s / 2) := by decide
theorem kt_isDone {p al k0 : Nat} {f : Nat → Int32} {ds : List qkDone} {K : Int32 → qc_H → Prop} (R : qkRep g L J h A) (hp : isStep g J p f) (hs1 : ∃ s, s < 6 ∧ f 1 = nI s) (hal : qkR (isDn g L J) h al ds) (halF : qkF L al) (halJ : J al = none) (hdl : ds.length ≤ 3) (hw : qkWb k0 A) (hk0 : k0 ≤ 600) (hc : 2400 ≤ c)
    (hk : ∀ J' h', qkJs J J' → qkRep g L J' h' (kf_isDone A f).2.2 → qkR (isDn g L J') h' al (ds ++ (kf_isDone A f).2.1.toList) → J' al = none → qkFx L (fun a => a = al) h h' → K (b2 (kf_isDone A f).1) h') : T_X1_isDone g (L 0) p al h c K := by
  unfold T_X1_isDone
  have hs1' := hs1
  obtain ⟨s, hs, hf1⟩ := hs1'
  have hp' : h p = some (.inl (.inl (g.2.2.2.1 0, 6, .inl f))) := R.jh _ _ hp
  have hcl : (f 1).toNatClampNeg = s := by rw [hf1]; exact nI_clamp (by omega)
  have hl3 : s / 2 < 3 := by omega
  have hidx : f (Int32.toNatClampNeg 1) / 2 = nI (s / 2) := by show f 1 / 2 = _; rw [hf1]; exact half_s s hs
  refine ⟨_, _, R.x, rfl, 6, f, hp', (vp_in_nI (by decide) (by decide) : vp_in (nI 1) 6), 3, _, _, R.lines, by rw [hidx]; exact vp_in_nI hl3 (by decide), rfl, ?_⟩
  rw [hidx, nI_clamp (by omega)]
  refine ⟨c - 8, by omega, fun an han => ?_⟩
  have hanF := R.fresh han
  have hanJ := R.Jn han
  have R1 := R.other (e := .inl (.inr (5, [.null, .null, .int 0, .int 0, .int 0, .int 0, .int 0]))) hanF hanJ
  refine ek 8 (by omega) (kt_ansInit R1 qc_up_s hanF (Nat.le_refl 8) fun h2 arl atl R2 ha2 _ _ _ _ _ F2 => ?_)
  have ne_an : al ≠ an := fun z => by
    obtain ⟨xs, x1, -⟩ := hal
    rw [z, han] at x1
    cases x1
  have F02 : qkFx L (fun a => a = al) h h2 := fx_fresh (fun a _ _ hn => qc_up_n (fun z => hn (by rw [z]; exact han))) F2 han
  have hal2 : qkR (isDn g L J) h2 al (ds ++ (none : Option qkDone).toList) := by
    show qkR _ h2 al (ds ++ [])
    rw [List.append_nil]
    refine hal.mono (fun e z => F2.at halF ne_an ?_) (fun x v q => q)
    rw [qc_up_n ne_an]
    exact z
  clear R1 F2
  unfold kf_isDone at hk
  rw [hcl] at hk
  generalize hRES : kf_isd f (s / 2) 3 none kf_f0 A = RES at hk
  intro X hX
  have key : ∀ (m k : Nat) (own : Option qkDone) (fa : Nat → Int32) (A1 : qkA) (J1 h1 : qc_H) (c1 : Nat) (x11 : Option Nat), k + m = 3 → qkJs J J1 → qkRep g L J1 h1 A1 → h1 an = some (qkAn arl atl fa) → qkR (isDn g L J1) h1 al (ds ++ own.toList) → J1 al = none → qkFx L (fun a => a = al) h h1 → (own = none → x11 = none) → (∀ d, own = some d → ∃ q, x11 = some q) → (own = none → qkWb k0 A1) → (own = none → 112 * m + 1920 ≤ c1) → 112 * m ≤ c1 → kf_isd f (s / 2) m own fa A1 = RES → X x11 (nI k) h1 c1 := by
    intro m
    induction m with
    | zero =>
      intro k own fa A1 J1 h1 c1 x11 hkm j1 R1 ha1 hal1 halJ1 F1 o1 o2 hw1 hc1 hc2 heq
      rw [kf_isd] at heq
      rw [← heq] at hk
      refine hX _ _ _ _ ⟨fun _ => hk J1 h1 j1 R1 hal1 halJ1 F1, fun z => absurd (show (3 : Int32) ≤ nI k from nI_le (a := 3) (by omega) (by omega)) z⟩
    | succ m ih =>
      intro k own fa A1 J1 h1 c1 x11 hkm j1 R1 ha1 hal1 halJ1 F1 o1 o2 hw1 hc1 hc2 heq
      have t : qkTm A1 (kf_attempt A1 (s / 2) (aQ A1 15) (-1) fa).2.1 := qkTm.attempt
      have hp1 : isStep g J1 p f := j1.1 _ _ hp
      refine hX _ _ _ _ ⟨fun z => absurd z (show ¬ (3 : Int32) ≤ nI k from nI_ge (a := k) (b := (3 : Nat)) (by omega) (by decide)), fun _ => ⟨_, aLn A1 (s / 2) 7, R1.line hl3, rfl, _, aQ A1 15, R1.x, rfl, ⟨_, R1.x⟩, ek 7 (by omega) (kt_attempt R1 hl3 ha1 hanF (R1.mu ha1 (Or.inl rfl)) (Nat.le_refl 7) fun h3 R3 ha3 F3 => ?_)⟩⟩
      have hal3 : qkR (isDn g L J1) h3 al (ds ++ own.toList) := hal1.mono (fun e z => F3.at halF ne_an z) (fun x v q => q)
      have F13 := fx_fresh F1 F3 han
      have fb : ¬ (kf_attempt A1 (s / 2) (aQ A1 15) (-1) fa).1 = 0 → ∀ J34 : Option Nat → qc_H → Nat → Prop, (∀ (x35 : Option Nat) (h36 : qc_H) (c37 : Nat), (X x35 (nI k + 1) h36 c37) → J34 x35 h36 c37) → (∀ y23, x11 = some y23 → J34 (some y23) h3 (c1 - 7)) ∧ (x11 = none → (aLn A1 (s / 2) 7 = 0 → J34 none h3 (c1 - 7)) ∧ (¬ aLn A1 (s / 2) 7 = 0 → eC h3 (L 0) 0 (eK (c1 - 7) (fun c27 k26 => T_X1_done g (L 0) p h3 k26 (fun r28 h29 => (r28 = none → J34 none h29 c27) ∧ (∀ y30, r28 = some y30 → eAd g h29 al y30 c27 (fun h32 c33 => J34 (some y30) h32 c33))))))) := by
        intro q J34 hJ34
        rw [nI_1] at hJ34
        cases own with
        | some d =>
          rw [kf_isd, if_neg q] at heq
          obtain ⟨y, hy⟩ := o2 d rfl
          refine ⟨fun y' hy' => hJ34 _ _ _ (ih (k + 1) (some d) _ _ J1 h3 _ (some y') (by omega) j1 R3 ha3 hal3 halJ1 F13 (fun z => by cases z) (fun d' _ => ⟨y', rfl⟩) (fun z => by cases z) (fun z => by cases z) (by omega) heq), fun z => by rw [hy] at z; cases z⟩
        | none =>
          rw [kf_isd, if_neg q] at heq
          have hc0 := hc1 rfl
          refine ⟨fun y' hy' => (by rw [o1 rfl] at hy'; cases hy'), fun _ => ⟨fun z => ?_, fun z => ⟨⟨_, R3.x⟩, ?_⟩⟩⟩
          · try dsimp only at heq
            rw [if_pos z] at heq
            exact hJ34 _ _ _ (ih (k + 1) none _ _ J1 h3 _ none (by omega) j1 R3 ha3 hal3 halJ1 F13 (fun _ => rfl) (fun d' hd => by cases hd) (fun _ => wb_tm (hw1 rfl) t) (fun _ => by omega) (by omega) heq)
          · try dsimp only at heq
            rw [if_neg z] at heq
            have hal3' : qkR (isDn g L J1) h3 al ds := by
              have : qkR (isDn g L J1) h3 al (ds ++ []) := hal3
              rw [List.append_nil] at this
              exact this
            refine kt_tryDone R3 hp1 hs1 hal3' halF halJ1 hdl (wb_tm (hw1 rfl) t) hk0 (by omega) fun J4 h4 c4 o j4 R4 hal4 halJ4 F4 p1 p2 p3 p4 => hJ34 _ _ _ (ih (k + 1) _ _ _ J4 h4 c4 o (by omega) (j1.tr j4) R4 ?_ hal4 halJ4 (F13.tr F4) p1 p2 (fun z1 => ?_) (fun z1 => ?_) ?_ heq)
            · exact F4.at hanF (Ne.symm ne_an) ha3
            · rw [done_same z1]
              exact wb_tm (hw1 rfl) t
            · have := p3 z1
              omega
            · by_cases z1 : (kf_done (kf_attempt A1 (s / 2) (aQ A1 15) (-1) fa).2.1 f).1 = none
              · have := p3 z1
                omega
              · have := p4 z1
                omega
      refine ⟨fun q => ?_, fun q => Or.inl ⟨rfl, fun _ => fb (by rw [q]; decide)⟩, fun q => Or.inr ⟨rfl, fun _ => fb (by rw [q]; decide)⟩⟩
      intro J64 hJ64
      cases own with
      | some d =>
        rw [kf_isd, if_pos q] at heq
        obtain ⟨y, hy⟩ := o2 d rfl
        try dsimp only at heq
        rw [← heq] at hk
        exact ⟨fun y' hy' => hJ64 _ _ _ ⟨fun z => (by cases z), fun _ _ => hk J1 h3 j1 R3 hal3 halJ1 F13⟩, fun z => by rw [hy] at z; cases z⟩
      | none =>
        rw [kf_isd, if_pos q] at heq
        have hc0 := hc1 rfl
        try dsimp only at heq
        rw [← heq] at hk
        have hal3' : qkR (isDn g L J1) h3 al ds := by
          have : qkR (isDn g L J1) h3 al (ds ++ []) := hal3
          rw [List.append_nil] at this
          exact this
        refine ⟨fun y' hy' => (by rw [o1 rfl] at hy'; cases hy'), fun _ => ⟨⟨_, R3.x⟩, kt_tryDone R3 hp1 hs1 hal3' halF halJ1 hdl (wb_tm (hw1 rfl) t) hk0 (by omega) fun J4 h4 c4 o j4 R4 hal4 halJ4 F4 p1 p2 p3 p4 => hJ64 _ _ _ ?_⟩⟩
        have fin := hk J4 h4 (j1.tr j4) R4 hal4 halJ4 (F13.tr F4)
        refine ⟨fun z => ?_, fun y z => ?_⟩
        · cases hdn : (kf_done (kf_attempt A1 (s / 2) (aQ A1 15) (-1) fa).2.1 f).1 with
          | none => rw [hdn] at fin; exact fin
          | some d =>
            obtain ⟨y, hy⟩ := p2 d hdn
            rw [z] at hy
            cases hy
        · cases hdn : (kf_done (kf_attempt A1 (s / 2) (aQ A1 15) (-1) fa).2.1 f).1 with
          | none =>
            rw [p1 hdn] at z
            cases z
          | some d => rw [hdn] at fin; exact fin
  exact key 3 0 none kf_f0 A J h2 _ none rfl qkJs.rf R2 ha2 hal2 halJ F02 (fun _ => rfl) (fun d hd => by cases hd) (fun _ => hw) (fun _ => by omega) (by omega) hRES
end
