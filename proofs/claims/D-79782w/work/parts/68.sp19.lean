/-! SP 19: the walk through the rows -/
set_option maxRecDepth 100000
def kf_step (A : qkA) (rss : Nat → List qkRow) : Nat → Nat → (Nat → qkRow) → List qkV → List qkV
  | 0, _, M, vs => kf_tell A M vs
  | m + 1, s, M, vs => (rss s).foldl (fun ws r => if kf_linkedAt (aLink A) (qkU M s r) s = true then kf_step A rss m (s + 1) (qkU M s r) ws else ws) vs
def kf_walk (A : qkA) (rss : Nat → List qkRow) (n : Nat) : List qkV := kf_step A rss n 0 (fun _ => (0, fun _ => 0)) []
theorem foldl_le {α β : Type} {f : List β → α → List β} (hf : ∀ b a, b.length ≤ (f b a).length) : ∀ {l : List α} {b : List β}, b.length ≤ (l.foldl f b).length
  | [], b => Nat.le_refl _
  | a :: t, b => Nat.le_trans (hf b a) (by rw [List.foldl_cons]; exact foldl_le hf)
theorem foldl_pr {α β : Type} {f : β → α → β} {P : β → Prop} (hf : ∀ b a, P b → P (f b a)) : ∀ {l : List α} {b : β}, P b → P (l.foldl f b)
  | [], b, h => h
  | a :: t, b, h => by rw [List.foldl_cons]; exact foldl_pr hf (hf b a h)
theorem kf_step_le {A : qkA} {rss : Nat → List qkRow} : ∀ {m s : Nat} {M : Nat → qkRow} {vs : List qkV}, vs.length ≤ (kf_step A rss m s M vs).length
  | 0, s, M, vs => kf_tell_le
  | m + 1, s, M, vs => by
    rw [kf_step]
    refine foldl_le fun b a => ?_
    split
    · exact kf_step_le
    · exact Nat.le_refl _
def q3 (A : qkA) (vs : List qkV) : Prop := aQ A 11 = 0 ∨ ∀ v ∈ vs, v.1 = 3
theorem kf_gins_3 {vs : List qkV} {v : Int32} (h : ∀ r ∈ vs, r.1 = 3) : ∀ r ∈ kf_gins vs v, r.1 = 3 := by
  unfold kf_gins
  split
  · exact h
  · intro r hr
    rw [List.mem_append, List.mem_cons] at hr
    rcases hr with q | rfl | q
    · exact h r (List.mem_of_mem_take q)
    · rfl
    · exact h r (List.mem_of_mem_drop q)
theorem kf_tell_3 {A : qkA} {M : Nat → qkRow} {vs : List qkV} (h : q3 A vs) : q3 A (kf_tell A M vs) := by
  rcases h with q | q
  · exact Or.inl q
  · by_cases z : aQ A 11 = 0
    · exact Or.inl z
    · right
      unfold kf_tell
      rw [if_neg z]
      unfold kf_grp
      split
      · rename_i r hr
        intro u hu
        rcases List.mem_or_eq_of_mem_set hu with p | p
        · exact kf_gins_3 q u p
        · rw [p]
          exact kf_gins_3 q r (List.mem_of_getElem? hr)
      · exact q
theorem kf_step_3 {A : qkA} {rss : Nat → List qkRow} : ∀ {m s : Nat} {M : Nat → qkRow} {vs : List qkV}, q3 A vs → q3 A (kf_step A rss m s M vs)
  | 0, s, M, vs, h => kf_tell_3 h
  | m + 1, s, M, vs, h => by
    rw [kf_step]
    refine foldl_pr (P := q3 A) (fun b a hb => ?_) h
    split
    · exact kf_step_3 hb
    · exact hb
section
variable {g : qh_G} {L : Nat → Nat} {J B h : qc_H} {A : qkA} {c : Nat}
theorem qkVs.oth {p a : Nat} {cl : ClassId} {n : Nat} {y} {e : qc_E} {vs : List qkV} (hv : qkVs g L J B h p vs) (ha : h a = some (.inl (.inl (cl, n, .inr y)))) : qkVs g L J B (qc_up h a e) p vs := by
  obtain ⟨xs, x1, x2, x3, x4, x5⟩ := hv
  refine ⟨xs, by rw [qc_up_n (by intro z; rw [z, ha] at x1; cases x1)]; exact x1, x2.mono fun b v hb => ?_, x3, x4, x5⟩
  rw [qc_up_n (by intro z; rw [z, ha] at hb; cases hb)]
  exact hb
/-- the rows of a question's seats, in B -/
def qkRss (g : qh_G) (L : Nat → Nat) (J B : qc_H) (D : Nat → Prop) (rw : Nat) (rss : Nat → List qkRow) (n : Nat) : Prop := ∃ (ls : List Nat), B rw = some (.inr ls) ∧ ls.length = n ∧ qkF L rw ∧ ¬ D rw ∧ ∀ s, s < n → ∃ (rl : Nat), ls[s]? = some rl ∧ qkR (isRow g J) B rl (rss s) ∧ (rss s).length ≤ 12 ∧ qkF L rl ∧ ¬ D rl
theorem kt_step {an arl atl ml n lim rw' : Nat} {f : Nat → Int32} {rss : Nat → List qkRow} (hn : n ≤ 3) (ho : ∀ o ∈ aOut A, qkOo n o) (ho1 : 1 ≤ (aOut A).length) (ho3 : (aOut A).length ≤ 3) (hlim : aQ A 10 = nI lim) (hl : lim ≤ 40) (hlk : ∀ l ∈ aLink A, qkLk l) (hmlF : qkF L ml) (hmlJ : J ml = none) (hmlB : B ml ≠ none) (harF : qkF L arl) (harJ : J arl = none)
    (hrs : qkRss g L J B (fun a => a = arl ∨ a = ml) rw' rss n) : ∀ (fuel m s : Nat) (h : qc_H) (c : Nat) (M : Nat → qkRow) (vs : List qkV) (K : qc_H → Prop), s + m = n → m < fuel → qkRep g L J h A → h an = some (qkAn arl atl f) → qkVs g L J B h arl vs → qkMt g J h ml M s → (∀ a, h a = none → B a = none) → qkFb L (fun a => a = arl ∨ a = ml) B B h → q3 A vs → (kf_step A rss m s M vs).length ≤ 40 → 75 * (kf_step A rss m s M vs).length ≤ c + 75 * vs.length →
    (∀ h', qkRep g L J h' A → h' an = some (qkAn arl atl f) → qkVs g L J B h' arl (kf_step A rss m s M vs) → qkMt g J h' ml M s → qkFb L (fun a => a = arl ∨ a = ml) B h h' → K h') → T_X1_step fuel g (L 0) rw' ml (nI s) an h c K := by
  intro fuel
  induction fuel with
  | zero =>
    intro m s h c M vs K _ h2
    exact absurd h2 (Nat.not_lt_zero _)
  | succ fuel ih =>
    intro m s h c M vs K hsm hmf R han hv hM hB F0 h3 hlen hc hk
    obtain ⟨ls, l1, l2, l3, l4, l5⟩ := hrs
    have hls : ∀ {h' : qc_H} {K' : Int32 → Prop}, h' rw' = some (.inr ls) → K' (nI n) → eSz h' rw' K' := fun z k => ⟨ls, z, by omega, by rw [l2]; exact k⟩
    have l6 : h rw' = some (.inr ls) := by rw [F0.1 rw' l3 l4 (by rw [l1]; intro z; cases z)]; exact l1
    rw [T_X1_step]
    refine hls l6 ⟨fun z => ?_, fun z => ?_⟩
    · -- a seat's rows
      have hsn : s < n := by
        apply Decidable.byContradiction
        intro q
        exact z (by rw [show s = n by omega])
      obtain ⟨m, rfl⟩ : ∃ k, m = k + 1 := ⟨m - 1, by omega⟩
      obtain ⟨rl, r1, ⟨xr, r2, r3, r4⟩, r5, r6, r7⟩ := l5 s hsn
      intro X hX
      rw [kf_step] at hlen hc hk
      have hf : ∀ (b : List qkV) (a : qkRow), b.length ≤ (if kf_linkedAt (aLink A) (qkU M s a) s = true then kf_step A rss m (s + 1) (qkU M s a) b else b).length := fun b a => by
        split
        · exact kf_step_le
        · exact Nat.le_refl _
      have key : ∀ d k h1 c1 ws, k + d = (rss s).length → ((rss s).take k).foldl (fun ws r => if kf_linkedAt (aLink A) (qkU M s r) s = true then kf_step A rss m (s + 1) (qkU M s r) ws else ws) vs = ws → qkRep g L J h1 A → h1 an = some (qkAn arl atl f) → qkVs g L J B h1 arl ws → qkMt g J h1 ml M s → (∀ a, h1 a = none → B a = none) → qkFb L (fun a => a = arl ∨ a = ml) B B h1 → qkFb L (fun a => a = arl ∨ a = ml) B h h1 → q3 A ws →
          75 * ((rss s).foldl (fun ws r => if kf_linkedAt (aLink A) (qkU M s r) s = true then kf_step A rss m (s + 1) (qkU M s r) ws else ws) vs).length ≤ c1 + 75 * ws.length → X (nI k) h1 c1 := by
        intro d
        induction d with
        | zero =>
          intro k h1 c1 ws hkd hws R1 ha1 hv1 hM1 hB1 F1 F2 h31 hc1
          have s1 : h1 rw' = some (.inr ls) := by rw [F1.1 rw' l3 l4 (by rw [l1]; intro z; cases z)]; exact l1
          have s2 : h1 rl = some (.inr xr) := by rw [F1.1 rl r6 r7 (by rw [r2]; intro z; cases z)]; exact r2
          rw [List.take_of_length_le (by omega)] at hws
          refine hX _ _ _ ⟨ls, s, rl, s1, by omega, rfl, r1, ⟨_, s2⟩, xr, s2, by rw [r3.1]; omega, fun _ => ?_, fun z1 => absurd (nI_le (by rw [r3.1]; omega) (by omega)) z1⟩
          rw [hws] at hk
          exact hk h1 R1 ha1 hv1 hM1 F2
        | succ d ihd =>
          intro k h1 c1 ws hkd hws R1 ha1 hv1 hM1 hB1 F1 F2 h31 hc1
          have s1 : h1 rw' = some (.inr ls) := by rw [F1.1 rw' l3 l4 (by rw [l1]; intro z; cases z)]; exact l1
          have s2 : h1 rl = some (.inr xr) := by rw [F1.1 rl r6 r7 (by rw [r2]; intro z; cases z)]; exact r2
          have hk' : k < (rss s).length := by omega
          obtain ⟨p, p1, p2⟩ := r3.get (List.getElem?_eq_getElem hk')
          have p3 := p2
          obtain ⟨ca, p4, p5⟩ := p3
          have hsnoc := foldl_snoc (f := fun ws r => if kf_linkedAt (aLink A) (qkU M s r) s = true then kf_step A rss m (s + 1) (qkU M s r) ws else ws) (b := vs) hk'
          rw [hws] at hsnoc
          have hpart : ((if kf_linkedAt (aLink A) (qkU M s (rss s)[k]) s = true then kf_step A rss m (s + 1) (qkU M s (rss s)[k]) ws else ws)).length ≤ ((rss s).foldl (fun ws r => if kf_linkedAt (aLink A) (qkU M s r) s = true then kf_step A rss m (s + 1) (qkU M s r) ws else ws) vs).length := by
            have e : (rss s).foldl (fun ws r => if kf_linkedAt (aLink A) (qkU M s r) s = true then kf_step A rss m (s + 1) (qkU M s r) ws else ws) vs = ((rss s).drop (k + 1)).foldl (fun ws r => if kf_linkedAt (aLink A) (qkU M s r) s = true then kf_step A rss m (s + 1) (qkU M s r) ws else ws) (((rss s).take (k + 1)).foldl (fun ws r => if kf_linkedAt (aLink A) (qkU M s r) s = true then kf_step A rss m (s + 1) (qkU M s r) ws else ws) vs) := by
              rw [← List.foldl_append, List.take_append_drop]
            rw [e, hsnoc]
            exact foldl_le hf
          generalize (rss s)[k] = r at hsnoc hpart p2 p4 p5
          obtain ⟨G, hG, hG2⟩ := hM1
          have hnm : an ≠ ml := by
            intro z
            rw [z, hG] at ha1
            cases ha1
          refine hX _ _ _ ⟨ls, s, rl, s1, by omega, rfl, r1, ⟨_, s2⟩, xr, s2, by rw [r3.1]; omega, fun z1 => absurd z1 (nI_ge (by rw [r3.1]; exact hk') (by rw [r3.1]; omega)), fun _ => ⟨ls, s, rl, s1, by omega, rfl, r1, ⟨_, s2⟩, xr, k, p, s2, by rw [r3.1]; omega, rfl, p1, ⟨_, R1.jh _ _ p4⟩, 3, G, _, hG, R1.jh _ _ p4, vp_in_nI (by omega) (by decide), ?_⟩⟩
          rw [nI_clamp (by omega)]
          have R2 := R1.other (e := .inl (.inl (g.2.2.2.1 6, 3, .inr (.inr (.inr (.inr (va_up G s (some p)))))))) hmlF hmlJ
          have hM2 : qkMt g J (qc_up h1 ml (.inl (.inl (g.2.2.2.1 6, 3, .inr (.inr (.inr (.inr (va_up G s (some p))))))))) ml (qkU M s r) (s + 1) := by
            refine ⟨_, qc_up_s, fun i hi => ?_⟩
            by_cases e : i = s
            · subst e
              exact ⟨p, if_pos rfl, by rw [qkU_s]; exact p2⟩
            · obtain ⟨u, u1, u2⟩ := hG2 i (by omega)
              exact ⟨u, by rw [show va_up G s (some p) i = G i from if_neg e]; exact u1, by rw [qkU_n e]; exact u2⟩
          have hback : ∀ {h2 : qc_H}, qkMt g J h2 ml (qkU M s r) (s + 1) → qkMt g J h2 ml M s := fun ⟨G', g1, g2⟩ => ⟨G', g1, fun i hi => by
            obtain ⟨u, u1, u2⟩ := g2 i (by omega)
            rw [qkU_n (by omega)] at u2
            exact ⟨u, u1, u2⟩⟩
          have ha2 : (qc_up h1 ml (.inl (.inl (g.2.2.2.1 6, 3, .inr (.inr (.inr (.inr (va_up G s (some p)))))))) : qc_H) an = some (qkAn arl atl f) := by rw [qc_up_n hnm]; exact ha1
          have hv2 := hv1.oth (e := .inl (.inl (g.2.2.2.1 6, 3, .inr (.inr (.inr (.inr (va_up G s (some p)))))))) hG
          have F12 : qkFb L (fun a => a = arl ∨ a = ml) B h1 (qc_up h1 ml (.inl (.inl (g.2.2.2.1 6, 3, .inr (.inr (.inr (.inr (va_up G s (some p))))))))) := qkFb.up (Or.inl (Or.inr rfl))
          generalize qc_up h1 ml (.inl (.inl (g.2.2.2.1 6, 3, .inr (.inr (.inr (.inr (va_up G s (some p)))))))) = h2 at R2 hM2 ha2 hv2 F12 ⊢
          have hB2 : ∀ a, h2 a = none → B a = none := fun a z => hB1 a (by
            apply Decidable.byContradiction
            intro q
            exact F12.2 a q z)
          refine ⟨⟨_, R2.x⟩, kt_areLinked R2 hM2 (by omega) hlk ⟨fun z1 => ?_, fun z1 => ?_⟩⟩
          · rw [if_neg (by rw [b2_eq0.mp z1]; decide)] at hsnoc
            rw [nI_1]
            exact ihd (k + 1) h2 c1 ws (by omega) hsnoc R2 ha2 hv2 (hback hM2) hB2 (F1.tr F12) (F2.tr F12) h31 hc1
          · rw [if_pos (b2_n0.mp z1)] at hsnoc hpart
            refine ⟨⟨_, R2.x⟩, ?_⟩
            have hsl := kf_step_le (A := A) (rss := rss) (m := m) (s := s + 1) (M := qkU M s r) (vs := ws)
            refine ek (75 * ((kf_step A rss m (s + 1) (qkU M s r) ws).length - ws.length)) (by omega) ?_
            rw [nI_1]
            refine ih m (s + 1) h2 _ (qkU M s r) ws _ (by omega) (by omega) R2 ha2 hv2 hM2 hB2 (F1.tr F12) h31 (Nat.le_trans hpart hlen) (by omega) fun h3 R3 ha3 hv3 hM3 F3 => ?_
            have := ihd (k + 1) h3 (c1 - 75 * ((kf_step A rss m (s + 1) (qkU M s r) ws).length - ws.length)) _ (by omega) hsnoc R3 ha3 hv3 (hback hM3) (fun a z => hB2 a (by
              apply Decidable.byContradiction
              intro q
              exact F3.2 a q z)) ((F1.tr F12).tr F3) ((F2.tr F12).tr F3) (kf_step_3 h31) (by omega)
            rw [← nI_1] at this
            exact this
      exact key (rss s).length 0 h c vs (by omega) (by rw [List.take_zero]; rfl) R han hv hM hB F0 qkFb.rf h3 hc
    · have hsn : s = n := by
        apply Decidable.byContradiction
        intro q
        exact absurd ((nI_eq (by omega) (by omega)).mp z) q
      have hm0 : m = 0 := by omega
      subst hm0
      rw [kf_step] at hlen hc hk
      refine ⟨⟨_, R.x⟩, ek c (Nat.le_refl _) (kt_tell R han hv harF harJ hB hM (by omega) (by rw [hsn]; exact ho) ho1 ho3 h3 hlim hl hlen hc fun h1 R1 ha1 hv1 F1 => hk h1 R1 ha1 hv1 ?_ (F1.le fun a z => Or.inl z))⟩
      have hmr : ml ≠ arl := by
        obtain ⟨G, hG, hG2⟩ := hM
        obtain ⟨xs, x1, -⟩ := hv
        intro q
        rw [q, x1] at hG
        cases hG
      exact hM.mono (F1.1 ml hmlF hmr hmlB)
theorem kt_walk {an arl atl n lim rw' : Nat} {f : Nat → Int32} {rss : Nat → List qkRow} {ls : List Nat} {K : qc_H → Prop} (R : qkRep g L J h A) (han : h an = some (qkAn arl atl f)) (hanF : qkF L an) (har : h arl = some (.inr [])) (harF : qkF L arl) (harJ : J arl = none) (hn : n ≤ 3) (ho : ∀ o ∈ aOut A, qkOo n o) (ho1 : 1 ≤ (aOut A).length) (ho3 : (aOut A).length ≤ 3) (hlim : aQ A 10 = nI lim) (hl : lim ≤ 40) (hlk : ∀ l ∈ aLink A, qkLk l)
    (h1 : h rw' = some (.inr ls)) (h2 : ls.length = n) (hrwF : qkF L rw') (hrwn : rw' ≠ arl) (hrs : ∀ s, s < n → ∃ (rl : Nat), ls[s]? = some rl ∧ qkR (isRow g J) h rl (rss s) ∧ (rss s).length ≤ 12 ∧ qkF L rl ∧ rl ≠ arl) (hlen : (kf_walk A rss n).length ≤ 40) (hc : 3004 ≤ c)
    (hk : ∀ h', qkRep g L J h' A → h' an = some (qkAn arl atl f) → qkVs g L J h h' arl (kf_walk A rss n) → qkFx L (fun a => a = arl) h h' → K h') : T_X1_walk g (L 0) rw' an h c K := by
  unfold T_X1_walk
  have e3 : Int32.toNatClampNeg 3 = 3 := by decide
  refine ⟨by decide, by decide, c - 4, by rw [e3]; omega, fun ml hml => ?_⟩
  rw [e3]
  have hmlF := R.fresh hml
  have hmlJ := R.Jn hml
  have R1 := R.other (e := .inl (.inl (g.2.2.2.1 6, 3, .inr (.inr (.inr (.inr (fun _ => none))))))) hmlF hmlJ
  have ne : ∀ {a : Nat} {e : qc_E}, h a = some e → a ≠ ml := fun z q => by
    rw [q, hml] at z
    cases z
  have hh : ∀ {a : Nat} {e : qc_E}, h a = some e → (qc_up h ml (.inl (.inl (g.2.2.2.1 6, 3, .inr (.inr (.inr (.inr (fun _ => none))))))) : qc_H) a = some e := fun z => by rw [qc_up_n (ne z)]; exact z
  have hsub : ∀ a, (qc_up h ml (.inl (.inl (g.2.2.2.1 6, 3, .inr (.inr (.inr (.inr (fun _ => none))))))) : qc_H) a = none → h a = none := fun a z => by
    by_cases q : a = ml
    · rw [q]; exact hml
    · rw [qc_up_n q] at z; exact z
  refine ⟨⟨_, R1.x⟩, ek (c - 4) (Nat.le_refl _) ?_⟩
  have hM0 : qkMt g J (qc_up h ml (.inl (.inl (g.2.2.2.1 6, 3, .inr (.inr (.inr (.inr (fun _ => none)))))))) ml (fun _ => (0, fun _ => 0)) 0 := ⟨_, qc_up_s, fun i hi => absurd hi (Nat.not_lt_zero i)⟩
  have hk' : ∀ h', qkRep g L J h' A → h' an = some (qkAn arl atl f) → qkVs g L J (qc_up h ml (.inl (.inl (g.2.2.2.1 6, 3, .inr (.inr (.inr (.inr (fun _ => none)))))))) h' arl (kf_walk A rss n) → qkFb L (fun a => a = arl ∨ a = ml) (qc_up h ml (.inl (.inl (g.2.2.2.1 6, 3, .inr (.inr (.inr (.inr (fun _ => none)))))))) (qc_up h ml (.inl (.inl (g.2.2.2.1 6, 3, .inr (.inr (.inr (.inr (fun _ => none)))))))) h' → K h' := by
    intro h' R' ha' hv' F'
    refine hk h' R' ha' ?_ fun a ha hd hb => ?_
    · obtain ⟨xs, x1, x2, x3, x4, x5⟩ := hv'
      exact ⟨xs, x1, x2, x3, x4, fun a ha => ⟨(x5 a ha).1, (x5 a ha).2.1, hsub a (x5 a ha).2.2⟩⟩
    · have hm : a ≠ ml := fun q => hb (by rw [q]; exact hml)
      rw [F'.1 a ha (by rintro (q | q); exact hd q; exact hm q) (by rw [qc_up_n hm]; exact hb), qc_up_n hm]
  have hmlB : (qc_up h ml (.inl (.inl (g.2.2.2.1 6, 3, .inr (.inr (.inr (.inr (fun _ => none))))))) : qc_H) ml ≠ none := by rw [qc_up_s]; intro z; cases z
  have hv0 : qkVs g L J (qc_up h ml (.inl (.inl (g.2.2.2.1 6, 3, .inr (.inr (.inr (.inr (fun _ => none)))))))) (qc_up h ml (.inl (.inl (g.2.2.2.1 6, 3, .inr (.inr (.inr (.inr (fun _ => none)))))))) arl [] := ⟨[], hh har, qkL.nil, Nat.zero_le _, List.nodup_nil, fun a ha => absurd ha List.not_mem_nil⟩
  have hrss : qkRss g L J (qc_up h ml (.inl (.inl (g.2.2.2.1 6, 3, .inr (.inr (.inr (.inr (fun _ => none)))))))) (fun a => a = arl ∨ a = ml) rw' rss n := by
    refine ⟨ls, hh h1, h2, hrwF, by rintro (q | q); exact hrwn q; exact ne h1 q, fun s hs => ?_⟩
    obtain ⟨rl, r1, ⟨xr, r2, r3, r4⟩, r5, r6, r7⟩ := hrs s hs
    exact ⟨rl, r1, ⟨xr, hh r2, r3, r4⟩, r5, r6, by rintro (q | q); exact r7 q; exact ne r2 q⟩
  have ha0 := hh han
  generalize qc_up h ml (.inl (.inl (g.2.2.2.1 6, 3, .inr (.inr (.inr (.inr (fun _ => none))))))) = h2 at R1 hM0 hk' hmlB hv0 hrss ha0 ⊢
  exact kt_step hn ho ho1 ho3 hlim hl hlk hmlF hmlJ hmlB harF harJ hrss 5 n 0 h2 _ _ [] _ (by omega) (by omega) R1 ha0 hv0 hM0 (fun _ z => z) qkFb.rf (Or.inr fun v hv => absurd hv List.not_mem_nil) hlen (by unfold kf_walk at hlen; simp only [List.length_nil]; omega) fun h' R' ha' hv' _ F' => hk' h' R' ha' hv' F'
end
