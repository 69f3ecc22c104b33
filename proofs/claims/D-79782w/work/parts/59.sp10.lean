/-! SP 10: seats: made, filtered; scans -/
set_option maxRecDepth 100000
def kf_own (A : qkA) (n : Int32) : List qkC := (aCond A).filter (fun cd => decide (cd.1 = n))
def kf_sent (A : qkA) (n : Int32) (src : Nat) : List qkC := (kf_own A n).filter (fun cd => kf_can (src / 2) cd.2.2.1 cd.2.1)
def kf_sv0 (n : Int32) : Nat → Int32 := fun k => if k = 0 then n else 0
section
variable {g : qh_G} {L : Nat → Nat} {J h : qc_H} {A : qkA} {c : Nat}
theorem kt_newL {K : Nat → qc_H → Nat → Prop} (hc : 4 ≤ c) (hk : ∀ a, h a = none → K a (qc_up h a (.inr [])) (c - 4)) : eNL h c K := ⟨c - 4, by omega, hk⟩
theorem kt_guess {se src ol sl rl : Nat} {sent : List qkC} {sv : Nat → Int32} {K : Int32 → Prop} (R : qkRep g L J h A) (hsrc : src < 6) (hse : h se = some (qkSt L src ol sl rl sv)) (hsl : qkR (isCond J) J sl sent) (hk : K (kf_guess (aSr A src 5) sent.length)) : T_X14_guess g se h K := by
  unfold T_X14_guess
  refine ⟨_, _, hse, rfl, _, aSr A src 5, R.src hsrc, rfl, _, _, hse, rfl, rl_size (hsl.mono (fun e z => R.jh _ _ z) (fun _ _ z => z)) ?_⟩
  rintro u rfl
  exact hk
theorem kt_scanCost {se src ol sl rl : Nat} {sent : List qkC} {sv : Nat → Int32} {K : Int32 → Prop} (R : qkRep g L J h A) (hsrc : src < 6) (hse : h se = some (qkSt L src ol sl rl sv)) (hsl : qkR (isCond J) J sl sent) (hk : K (kf_fee (src / 2) + kf_freight (src / 2) * kf_guess (aSr A src 5) sent.length)) : T_X14_scanCost g se h K := by
  unfold T_X14_scanCost
  have hs3 : src / 2 < 3 := by omega
  exact ⟨_, _, hse, rfl, _, _, R.src hsrc, rfl, _, _, R.line hs3, rfl, kt_fee R hs3 ⟨_, _, hse, rfl, _, _, R.src hsrc, rfl, _, _, R.line hs3, rfl, kt_freight R hs3 ⟨⟨_, hse⟩, kt_guess R hsrc hse hsl hk⟩⟩⟩
theorem kt_filter {se src ol sl rl : Nat} {own : List qkC} {rows : List qkRow} {sv : Nat → Int32} {K : qc_H → Prop} (R : qkRep g L J h A) (hse : h se = some (qkSt L src ol sl rl sv)) (hsF : qkF L se) (hsJ : J se = none) (hol : qkR (isCond J) J ol own) (hok : ∀ cd ∈ own, qkOk cd) (hrl : qkR (isRow g J) h rl rows) (hrn : rows.length ≤ 12) (hc : 360 ≤ c)
    (hk : ∀ h' w, qkRep g L J h' A → h w = none → qkF L w → J w = none → h' se = some (qkSt L src ol sl w sv) → qkR (isRow g J) h' w (rows.filter (fun r => kf_all own r)) → qkFx L (fun a => a = se) h h' → K h') : T_X14_filter g se h c K := by
  unfold T_X14_filter
  refine kt_newL (by omega) fun w hw => ?_
  have hwF := R.fresh hw
  have hwJ := R.Jn hw
  have hne : se ≠ w := by
    intro z
    rw [z, hw] at hse
    cases hse
  have hnr : rl ≠ w := by
    obtain ⟨xs, h1, -⟩ := hrl
    intro z
    rw [z, hw] at h1
    cases h1
  have R1 := R.other (e := .inr []) hwF hwJ
  intro X hX
  have key : ∀ n k h1 c1, k + n = rows.length → 29 * n ≤ c1 → qkRep g L J h1 A → h1 se = some (qkSt L src ol sl rl sv) → qkR (isRow g J) h1 rl rows → qkR (isRow g J) h1 w ((rows.take k).filter (fun r => kf_all own r)) → qkFx L (fun a => a = se) h h1 → X (nI k) h1 c1 := by
    intro n
    induction n with
    | zero =>
      intro k h1 c1 hkn hc1 R1 hs1 hr1 hw1 F1
      rw [show rows.take k = rows from List.take_of_length_le (by omega)] at hw1
      refine hX _ _ _ ⟨_, _, hs1, rfl, rl_size hr1 ⟨fun _ => ⟨_, hs1, by simp, ?_⟩, fun z => absurd (nI_le (by omega) (by omega)) z⟩⟩
      have R2 := R1.other (e := qkSt L src ol sl w sv) hsF hsJ
      exact hk _ w R2 hw hwF hwJ qc_up_s (hw1.mono (fun e z => by rw [qc_up_n hne.symm]; exact z) (fun _ _ z => z)) (F1.tr (qkFx.up rfl))
    | succ n ih =>
      intro k h1 c1 hkn hc1 R1 hs1 hr1 hw1 F1
      have hk' : k < rows.length := by omega
      refine hX _ _ _ ⟨_, _, hs1, rfl, rl_size hr1 ⟨fun z => absurd z (nI_ge (by omega) (by omega)), fun _ => ?_⟩⟩
      refine ⟨_, _, hs1, rfl, _, _, hs1, rfl, rl_get hr1 rfl (List.getElem?_eq_getElem hk') fun y hy => ?_⟩
      obtain ⟨ca, y1, y2⟩ := hy
      have hfs : (rows.take (k + 1)).filter (fun r => kf_all own r) = (rows.take k).filter (fun r => kf_all own r) ++ (if kf_all own rows[k] = true then [rows[k]] else []) := by
        rw [List.take_succ_eq_append_getElem hk', List.filter_append]
        congr 1
        by_cases e : kf_all own rows[k] = true
        · rw [if_pos e, List.filter_cons_of_pos (by simpa using e)]
          rfl
        · rw [if_neg e, List.filter_cons_of_neg (by simpa using e)]
          rfl
      refine ⟨⟨_, R1.jh _ _ y1⟩, kt_holdAll R1.jh (hol.mono (fun e z => R1.jh _ _ z) (fun _ _ z => z)) ⟨ca, y1, y2⟩ hok ⟨fun z => ?_, fun z => ⟨_, _, hs1, rfl, rl_get hr1 rfl (List.getElem?_eq_getElem hk') fun y' hy' => ?_⟩⟩⟩
      · rw [nI_1]
        refine ih (k + 1) h1 c1 (by omega) (by omega) R1 hs1 hr1 ?_ F1
        rw [hfs, if_neg (by rw [b2_eq0.mp z]; decide), List.append_nil]
        exact hw1
      · obtain ⟨ca', z1, z2⟩ := hy'
        have hl := List.length_filter_le (fun r => kf_all own r) (rows.take k)
        rw [List.length_take] at hl
        refine ⟨⟨_, R1.jh _ _ z1⟩, rl_add (w := rows[k]) hw1 (R1.jh _ _ z1) (Or.inl rfl) ⟨ca', z1, z2⟩ (by omega) fun xs hxs => ?_⟩
        rw [nI_1]
        refine ih (k + 1) _ _ (by omega) (by omega) (R1.other hwF hwJ) (by rw [qc_up_n hne]; exact hs1) (hr1.mono (fun e q => by rw [qc_up_n hnr]; exact q) (fun _ _ q => q)) ?_ (F1.up2 hw)
        rw [hfs, if_pos (b2_n0.mp z)]
        exact ⟨xs, qc_up_s, hxs, by rw [List.length_append]; show _ + 1 ≤ _; omega⟩
  refine key rows.length 0 _ _ (by omega) (by omega) R1 (by rw [qc_up_n hne]; exact hse) (hrl.mono (fun e q => by rw [qc_up_n hnr]; exact q) (fun _ _ q => q)) ?_ (qkFx.rf.up2 hw)
  rw [List.take_zero, List.filter_nil]
  exact ⟨[], qc_up_s, qkL.nil, by decide⟩
theorem kt_seatInit {w n src : Nat} {K : qc_H → Prop} (R : qkRep g L J h A) (hw : h w = some (.inl (.inr (13, [.int 0, .null, .null, .null, .null, .int 0, .int 0, .int 0, .int 0, .int 0, .null])))) (hwF : qkF L w) (hwJ : J w = none) (hn : (aSeat A)[n]? = some (nI src)) (hsrc : src < 6) (hcl : (aCond A).length ≤ 4) (hc : 160 ≤ c)
    (hk : ∀ J' h' ol sl rl, qkJw h J J' → qkRep g L J' h' A → h' w = some (qkSt L src ol sl rl (kf_sv0 (nI n))) → qkR (isCond J') J' ol (kf_own A (nI n)) → qkR (isCond J') J' sl (kf_sent A (nI n) src) → h' rl = some (.inr []) → h rl = none → qkF L rl → J' rl = none → J' w = none → qkFx L (fun a => a = w) h h' → K h') : T_X14_init g w (L 0) (nI n) h c K := by
  unfold T_X14_init
  have hlc := R.conds.choose_spec.2.2
  refine ⟨_, hw, by simp, kt_newL (by omega) fun ol hol => ?_⟩
  have R1 := R.other (e := .inl (.inr (13, [.int 0, .null, .null, .null, .null, .int 0, .int 0, .int 0, .int 0, .int 0, .ref (L 0)]))) hwF hwJ
  have F1 : qkFx L (fun a => a = w) h (qc_up h w (.inl (.inr (13, [.int 0, .null, .null, .null, .null, .int 0, .int 0, .int 0, .int 0, .int 0, .ref (L 0)])))) := qkFx.up rfl
  have hw1 : (qc_up h w (.inl (.inr (13, [.int 0, .null, .null, .null, .null, .int 0, .int 0, .int 0, .int 0, .int 0, .ref (L 0)])))) w = some _ := qc_up_s
  have hup1 : ∀ a, a ≠ w → (qc_up h w (.inl (.inr (13, [.int 0, .null, .null, .null, .null, .int 0, .int 0, .int 0, .int 0, .int 0, .ref (L 0)])))) a = h a := fun a ha => qc_up_n ha
  change (qc_up h w (.inl (.inr (13, [.int 0, .null, .null, .null, .null, .int 0, .int 0, .int 0, .int 0, .int 0, .ref (L 0)])))) ol = none at hol
  change eP (qc_up (qc_up h w (.inl (.inr (13, [.int 0, .null, .null, .null, .null, .int 0, .int 0, .int 0, .int 0, .int 0, .ref (L 0)])))) ol (.inr [])) w 13 2 (.ref ol) _
  generalize qc_up h w (.inl (.inr (13, [.int 0, .null, .null, .null, .null, .int 0, .int 0, .int 0, .int 0, .int 0, .ref (L 0)]))) = h1 at R1 F1 hw1 hup1 hol ⊢
  have o1 : ol ≠ w := by
    intro z
    rw [z, hw1] at hol
    cases hol
  have holF := R1.fresh hol
  have holJ := R1.Jn hol
  have hol0 : h ol = none := by rw [← hup1 ol o1]; exact hol
  refine ⟨_, by rw [qc_up_n o1.symm]; exact hw1, by simp, ?_⟩
  have R2 := (R1.other (e := .inr []) holF holJ).other (e := .inl (.inr (13, [.int 0, .null, .ref ol, .null, .null, .int 0, .int 0, .int 0, .int 0, .int 0, .ref (L 0)]))) hwF hwJ
  have F2 : qkFx L (fun a => a = w) h (qc_up (qc_up h1 ol (.inr [])) w (.inl (.inr (13, [.int 0, .null, .ref ol, .null, .null, .int 0, .int 0, .int 0, .int 0, .int 0, .ref (L 0)])))) := (F1.up2 hol0).tr (qkFx.up rfl)
  have hw2 : (qc_up (qc_up h1 ol (.inr [])) w (.inl (.inr (13, [.int 0, .null, .ref ol, .null, .null, .int 0, .int 0, .int 0, .int 0, .int 0, .ref (L 0)])))) w = some _ := qc_up_s
  have ho2 : (qc_up (qc_up h1 ol (.inr [])) w (.inl (.inr (13, [.int 0, .null, .ref ol, .null, .null, .int 0, .int 0, .int 0, .int 0, .int 0, .ref (L 0)])))) ol = some (.inr []) := by rw [qc_up_n o1]; exact qc_up_s
  have hup2 : ∀ a, a ≠ w → a ≠ ol → (qc_up (qc_up h1 ol (.inr [])) w (.inl (.inr (13, [.int 0, .null, .ref ol, .null, .null, .int 0, .int 0, .int 0, .int 0, .int 0, .ref (L 0)])))) a = h a := fun a ha hb => by rw [qc_up_n ha, qc_up_n hb]; exact hup1 a ha
  change eNL (qc_up (qc_up h1 ol (.inr [])) w (.inl (.inr (13, [.int 0, .null, .ref ol, .null, .null, .int 0, .int 0, .int 0, .int 0, .int 0, .ref (L 0)])))) (c - 4) _
  generalize qc_up (qc_up h1 ol (.inr [])) w (.inl (.inr (13, [.int 0, .null, .ref ol, .null, .null, .int 0, .int 0, .int 0, .int 0, .int 0, .ref (L 0)]))) = h2 at R2 F2 hw2 ho2 hup2 ⊢
  refine kt_newL (by omega) fun sl hsl => ?_
  have s1 : sl ≠ w := by
    intro z
    rw [z, hw2] at hsl
    cases hsl
  have s2 : sl ≠ ol := by
    intro z
    rw [z, ho2] at hsl
    cases hsl
  have hslF := R2.fresh hsl
  have hslJ := R2.Jn hsl
  have hsl0 : h sl = none := by rw [← hup2 sl s1 s2]; exact hsl
  refine ⟨_, by rw [qc_up_n s1.symm]; exact hw2, by simp, ?_⟩
  have R3 := (R2.other (e := .inr []) hslF hslJ).other (e := .inl (.inr (13, [.int 0, .null, .ref ol, .ref sl, .null, .int 0, .int 0, .int 0, .int 0, .int 0, .ref (L 0)]))) hwF hwJ
  have F3 : qkFx L (fun a => a = w) h (qc_up (qc_up h2 sl (.inr [])) w (.inl (.inr (13, [.int 0, .null, .ref ol, .ref sl, .null, .int 0, .int 0, .int 0, .int 0, .int 0, .ref (L 0)])))) := (F2.up2 hsl0).tr (qkFx.up rfl)
  have hw3 : (qc_up (qc_up h2 sl (.inr [])) w (.inl (.inr (13, [.int 0, .null, .ref ol, .ref sl, .null, .int 0, .int 0, .int 0, .int 0, .int 0, .ref (L 0)])))) w = some _ := qc_up_s
  have ho3 : (qc_up (qc_up h2 sl (.inr [])) w (.inl (.inr (13, [.int 0, .null, .ref ol, .ref sl, .null, .int 0, .int 0, .int 0, .int 0, .int 0, .ref (L 0)])))) ol = some (.inr []) := by rw [qc_up_n o1, qc_up_n s2.symm]; exact ho2
  have hs3 : (qc_up (qc_up h2 sl (.inr [])) w (.inl (.inr (13, [.int 0, .null, .ref ol, .ref sl, .null, .int 0, .int 0, .int 0, .int 0, .int 0, .ref (L 0)])))) sl = some (.inr []) := by rw [qc_up_n s1]; exact qc_up_s
  have hup3 : ∀ a, a ≠ w → a ≠ ol → a ≠ sl → (qc_up (qc_up h2 sl (.inr [])) w (.inl (.inr (13, [.int 0, .null, .ref ol, .ref sl, .null, .int 0, .int 0, .int 0, .int 0, .int 0, .ref (L 0)])))) a = h a := fun a ha hb hc => by rw [qc_up_n ha, qc_up_n hc]; exact hup2 a ha hb
  change eNL (qc_up (qc_up h2 sl (.inr [])) w (.inl (.inr (13, [.int 0, .null, .ref ol, .ref sl, .null, .int 0, .int 0, .int 0, .int 0, .int 0, .ref (L 0)])))) (c - 4 - 4) _
  generalize qc_up (qc_up h2 sl (.inr [])) w (.inl (.inr (13, [.int 0, .null, .ref ol, .ref sl, .null, .int 0, .int 0, .int 0, .int 0, .int 0, .ref (L 0)]))) = h3 at R3 F3 hw3 ho3 hs3 hup3 ⊢
  refine kt_newL (by omega) fun rl hrl => ?_
  have r1 : rl ≠ w := by
    intro z
    rw [z, hw3] at hrl
    cases hrl
  have r2 : rl ≠ ol := by
    intro z
    rw [z, ho3] at hrl
    cases hrl
  have r3 : rl ≠ sl := by
    intro z
    rw [z, hs3] at hrl
    cases hrl
  have hrlF := R3.fresh hrl
  have hrlJ := R3.Jn hrl
  have hrl0 : h rl = none := by rw [← hup3 rl r1 r2 r3]; exact hrl
  have R3b := R3.other (e := .inr []) hrlF hrlJ
  have hw3b : (qc_up h3 rl (.inr [])) w = _ := (qc_up_n r1.symm).trans hw3
  have ho3b : (qc_up h3 rl (.inr [])) ol = _ := (qc_up_n r2.symm).trans ho3
  have hs3b : (qc_up h3 rl (.inr [])) sl = _ := (qc_up_n r3.symm).trans hs3
  have hr3b : (qc_up h3 rl (.inr [])) rl = some (.inr []) := qc_up_s
  have F3b := F3.up2 (e := .inr []) hrl0
  generalize qc_up h3 rl (.inr []) = h4 at R3b hw3b ho3b hs3b hr3b F3b ⊢
  refine ⟨_, hw3b, by simp, _, qc_up_s, by simp, ?_⟩
  have hseq : ∀ e : qc_E, qkRep g L J (qc_up h4 w e) A := fun e => R3b.other hwF hwJ
  simp only [qc_up_up]
  refine ⟨_, _, (hseq _).x, rfl, _, _, (hseq _).x, rfl, rl_get (hseq _).seats rfl hn fun y hy => ?_⟩
  have y1 : J y = some (.inl (.inr (17, [.int (nI src)]))) := hy
  refine ⟨⟨_, (hseq _).jh _ _ y1⟩, _, (hseq _).jh _ _ y1, _, _, L (16 + src), (hseq _).srcs, vp_in_nI hsrc (by decide), by rw [nI_clamp (by omega)], _, qc_up_s, by simp, ?_⟩
  simp only [qc_up_up]
  have R5 := hseq (qkSt L src ol sl rl (kf_sv0 (nI n)))
  have hw5 : (qc_up h4 w (qkSt L src ol sl rl (kf_sv0 (nI n)))) w = some (qkSt L src ol sl rl (kf_sv0 (nI n))) := qc_up_s
  have ho5 : (qc_up h4 w (qkSt L src ol sl rl (kf_sv0 (nI n)))) ol = _ := (qc_up_n o1).trans ho3b
  have hs5 : (qc_up h4 w (qkSt L src ol sl rl (kf_sv0 (nI n)))) sl = _ := (qc_up_n s1).trans hs3b
  have hr5 : (qc_up h4 w (qkSt L src ol sl rl (kf_sv0 (nI n)))) rl = _ := (qc_up_n r1).trans hr3b
  have F5 : qkFx L (fun a => a = w) h (qc_up h4 w (qkSt L src ol sl rl (kf_sv0 (nI n)))) := F3b.tr (qkFx.up rfl)
  change ∀ X21 : Int32 → qc_H → Nat → Prop, _ → X21 0 (qc_up h4 w (qkSt L src ol sl rl (kf_sv0 (nI n)))) (c - 4 - 4 - 4)
  generalize qc_up h4 w (qkSt L src ol sl rl (kf_sv0 (nI n))) = h5 at R5 hw5 ho5 hs5 hr5 F5 ⊢
  clear hseq hw3b ho3b hs3b hr3b R3b F3b h4
  intro X hX
  have key : ∀ m k h6 c6, k + m = (aCond A).length → 34 * m ≤ c6 → qkRep g L J h6 A → h6 w = some (qkSt L src ol sl rl (kf_sv0 (nI n))) → qkR (isCond J) h6 ol (((aCond A).take k).filter (fun cd => decide (cd.1 = nI n))) → qkR (isCond J) h6 sl ((((aCond A).take k).filter (fun cd => decide (cd.1 = nI n))).filter (fun cd => kf_can (src / 2) cd.2.2.1 cd.2.1)) → h6 rl = some (.inr []) → qkFx L (fun a => a = w) h h6 → X (nI k) h6 c6 := by
    intro m
    induction m with
    | zero =>
      intro k h6 c6 hkm hc6 R6 hw6 ho6 hs6 hr6 F6
      rw [show (aCond A).take k = aCond A from List.take_of_length_le (by omega)] at ho6 hs6
      refine hX _ _ _ ⟨_, _, R6.x, rfl, rl_size R6.conds ⟨fun _ => ?_, fun z => absurd (nI_le (by omega) (by omega)) z⟩⟩
      obtain ⟨xo, xo1, xo2, xo3⟩ := ho6
      obtain ⟨xs, xs1, xs2, xs3⟩ := hs6
      have Q1 := R6.freeze holF (R1.freshG hol) xo1
      have Q2 := Q1.freeze hslF (R2.freshG hsl) xs1
      have kJ1 : qkJ J (qc_up J ol (.inr xo)) := qkJ.up (Or.inl holJ)
      have kJ2 : qkJ (qc_up J ol (.inr xo)) (qc_up (qc_up J ol (.inr xo)) sl (.inr xs)) := qkJ.up (Or.inl (by rw [qc_up_n s2]; exact hslJ))
      have kJ := kJ1.tr kJ2
      have kw : qkJw h J (qc_up (qc_up J ol (.inr xo)) sl (.inr xs)) := (qkJw.up holJ hol0).tr (h' := h) (qkJw.up (by rw [qc_up_n s2]; exact hslJ) hsl0) (fun _ z => z)
      exact hk _ h6 ol sl rl kw Q2 hw6 ⟨xo, kJ2 _ _ qc_up_s, xo2.mono (isCond.mono kJ), xo3⟩ ⟨xs, qc_up_s, xs2.mono (isCond.mono kJ), xs3⟩ hr6 hrl0 hrlF (by rw [qc_up_n r3, qc_up_n r2]; exact hrlJ) (by rw [qc_up_n s1.symm, qc_up_n o1.symm]; exact hwJ) F6
    | succ m ih =>
      intro k h6 c6 hkm hc6 R6 hw6 ho6 hs6 hr6 F6
      have hk' : k < (aCond A).length := by omega
      refine hX _ _ _ ⟨_, _, R6.x, rfl, rl_size R6.conds ⟨fun z => absurd z (nI_ge (by omega) (by omega)), fun _ => ?_⟩⟩
      refine ⟨_, _, R6.x, rfl, rl_get R6.conds rfl (List.getElem?_eq_getElem hk') fun y hy => ?_⟩
      have y1 : J y = some (.inl (.inr (11, [.int (aCond A)[k].1, .int (aCond A)[k].2.1, .int (aCond A)[k].2.2.1, .int (aCond A)[k].2.2.2]))) := hy
      have hts : (aCond A).take (k + 1) = (aCond A).take k ++ [(aCond A)[k]] := List.take_succ_eq_append_getElem hk'
      have hlo := List.length_filter_le (fun cd : qkC => decide (cd.1 = nI n)) ((aCond A).take k)
      rw [List.length_take] at hlo
      have hls := List.length_filter_le (fun cd : qkC => kf_can (src / 2) cd.2.2.1 cd.2.1) (((aCond A).take k).filter (fun cd : qkC => decide (cd.1 = nI n)))
      refine ⟨⟨_, R6.jh _ _ y1⟩, _, (aCond A)[k].1, R6.jh _ _ y1, rfl, fun z => ?_, fun z => ?_⟩
      · rw [nI_1]
        refine ih (k + 1) h6 c6 (by omega) (by omega) R6 hw6 ?_ ?_ hr6 F6
        · rw [hts, List.filter_append, List.filter_cons_of_neg (by simpa using z), List.filter_nil, List.append_nil]
          exact ho6
        · rw [hts, List.filter_append, List.filter_cons_of_neg (by simpa using z), List.filter_nil, List.append_nil]
          exact hs6
      · have hto : ((aCond A).take (k + 1)).filter (fun cd : qkC => decide (cd.1 = nI n)) = ((aCond A).take k).filter (fun cd : qkC => decide (cd.1 = nI n)) ++ [(aCond A)[k]] := by
          rw [hts, List.filter_append, List.filter_cons_of_pos (by simpa using z), List.filter_nil]
        refine ⟨_, _, hw6, rfl, rl_add (w := (aCond A)[k]) ho6 (R6.jh _ _ y1) (Or.inr (Or.inr (Or.inr (Or.inl rfl)))) hy (by omega) fun xs hxs => ?_⟩
        have R7 := R6.other (e := .inr xs) holF holJ
        have hw7 : (qc_up h6 ol (.inr xs)) w = _ := (qc_up_n o1.symm).trans hw6
        have ho7 : qkR (isCond J) (qc_up h6 ol (.inr xs)) ol (((aCond A).take (k + 1)).filter (fun cd => decide (cd.1 = nI n))) := by
          rw [hto]
          exact ⟨xs, qc_up_s, hxs, by rw [List.length_append]; show _ + 1 ≤ _; omega⟩
        have hs7 : qkR (isCond J) (qc_up h6 ol (.inr xs)) sl ((((aCond A).take k).filter (fun cd => decide (cd.1 = nI n))).filter (fun cd => kf_can (src / 2) cd.2.2.1 cd.2.1)) := hs6.mono (fun e q => by rw [qc_up_n s2]; exact q) (fun _ _ q => q)
        have hr7 : (qc_up h6 ol (.inr xs)) rl = some (.inr []) := by rw [qc_up_n r2]; exact hr6
        have F7 := F6.up2 (e := .inr xs) hol0
        generalize qc_up h6 ol (.inr xs) = h7 at R7 hw7 ho7 hs7 hr7 F7 ⊢
        refine ⟨_, _, hw7, rfl, _, _, R7.src hsrc, rfl, _, _, R7.line (by omega), rfl, _, (aCond A)[k].2.2.1, R7.jh _ _ y1, rfl, _, (aCond A)[k].2.1, R7.jh _ _ y1, rfl, kt_can R7 (by omega) ⟨fun z1 => ?_, fun z1 => ?_⟩⟩
        · rw [nI_1]
          refine ih (k + 1) h7 _ (by omega) (by omega) R7 hw7 ho7 ?_ hr7 F7
          rw [hto, List.filter_append, List.filter_cons_of_neg (by rw [b2_eq0.mp z1]; decide), List.filter_nil, List.append_nil]
          exact hs7
        · refine ⟨_, _, hw7, rfl, rl_add (w := (aCond A)[k]) hs7 (R7.jh _ _ y1) (Or.inr (Or.inr (Or.inr (Or.inl rfl)))) hy (by omega) fun ys hys => ?_⟩
          rw [nI_1]
          refine ih (k + 1) _ _ (by omega) (by omega) (R7.other hslF hslJ) (by rw [qc_up_n s1.symm]; exact hw7) (ho7.mono (fun e q => by rw [qc_up_n s2.symm]; exact q) (fun _ _ q => q)) ?_ (by rw [qc_up_n r3]; exact hr7) (F7.up2 hsl0)
          rw [hto, List.filter_append, List.filter_cons_of_pos (by rw [b2_n0.mp z1]), List.filter_nil]
          exact ⟨ys, qc_up_s, hys, by rw [List.length_append]; show _ + 1 ≤ _; omega⟩
  refine key (aCond A).length 0 h5 _ (by omega) (by omega) R5 hw5 ?_ ?_ hr5 F5
  · rw [List.take_zero, List.filter_nil]
    exact ⟨[], ho5, qkL.nil, by decide⟩
  · rw [List.take_zero, List.filter_nil, List.filter_nil]
    exact ⟨[], hs5, qkL.nil, by decide⟩
end
