/-! SR 26: the claim: the law's contract at its start, and the claim out of it (rows of the skeleton: R_law, lw_P, lw_Q, lw_pre_spec, lw_frame, lw_limb, i_vc) -/
set_option maxRecDepth 100000
def R_law : String := "QueryHarborLaw"
def lw_P (b : Addr) (xs : List Int32) (args : Array Value) (s : State) : Prop := args = #[.ref b] ∧ s.IntsAt b xs ∧ xs.length ≤ 448 ∧ (Jvm.Cond.and given_1 narrow_1).before args s = true
def lw_Q (_ : Array Value) (s : State) (o : Outcome) (t : State) : Prop := o = .returned (some (.int 1)) ∧ Framed s o t [] 1200384 5485226
theorem lw_pre_spec {args : Array Value} {s : State} (h : (Jvm.Cond.and given_1 narrow_1).before args s = true) (hr : rest_1_c.before args s = true) : ∃ (b : Addr) (xs : List Int32), lw_P b xs args s := by
  have hs := flat_of_before _ h
  have hq := flat_of_before _ hr
  have hc : (Cond.count 1).before args s = true := hs _ (by decide +kernel)
  have harr : (Cond.arrayOf (.arg 0) .int).before args s = true := hs _ (by decide +kernel)
  have hle : (Cond.le (.length (.arg 0)) (.int 448)).before args s = true := hs _ (by decide +kernel)
  have hlen : (Cond.isInt (.length (.arg 0))).before args s = true := hq _ (by decide +kernel)
  have hall : (Cond.all (.arg 0) (.isInt (.elem (.arg 0) (.index 0)))).before args s = true := hq _ (by decide +kernel)
  obtain ⟨b, xs, hb, hx⟩ := State.ints_of_pre rfl harr hlen hall
  have hsm : xs.length < 2 ^ 31 := hx.choose_spec.2.2.2
  have hev : (Term.length (.arg 0)).eval args s none [] s = some (.int xs.length.toInt32) := hx.length_eval hb
  have hv := Cond.le_ints hev (show (Term.int 448).eval args s none [] s = some (.int 448) from rfl)
  have hd : xs.length.toInt32 ≤ 448 := by
    simpa [Cond.before, Cond.holds, hv] using hle
  have hN : xs.length ≤ 448 := (Int32.ofNat_le_ofNat hsm (by decide)).mp (show Int32.ofNat xs.length ≤ Int32.ofNat 448 from hd)
  exact ⟨b, xs, Cond.one_arg hc (show args[0]? = some (.ref b) from hb), hx, hN, h⟩
/-- the world as the law finds it -/
def wG (l : Launch) (s0 : State) (D : va_G) (cA : Nat → ClassId) (b L : Nat) (xs : Nat → Int32) (x9 : qc_X) (sd : String → Nat → Nat) : qh_G := (l, D, fun q => s0.heap.size ≤ q, cA, wX s0 b L xs x9 sd)
section
variable {l : Launch} {s0 : State} {D : va_G} {cA : Nat → ClassId} {b L : Nat} {xs : Nat → Int32} {x9 : qc_X} {sd : String → Nat → Nat}
theorem wG_O (h0 : wX s0 b L xs x9 sd s0) (hi : ∀ j k, j < 256 → k < 256 → x9.2.2.2 j = x9.2.2.2 k → j = k) : qc_O (wG l s0 D cA b L xs x9 sd) x9 := by
  refine ⟨fun k hk => ?_, fun w hw U hU => hU.2.2.1 w (Or.inl hw), fun U hU => hU.2.2.2.2.1, fun U hU => hU.2.2.2.2.2.1, fun U hU => hU.2.2.2.2.2.2.1, fun U hU => hU.2.2.2.2.2.2.2.1, fun U hU => hU.2.2.2.2.2.2.2.2.1, fun U hU => hU.2.2.2.2.2.2.2.2.2.1, fun U hU => hU.2.2.2.2.2.2.2.2.2.2.1, ⟨s0, h0⟩, hi⟩
  obtain ⟨cell, _, _, _, h⟩ := h0.2.2.2.2.2.2.2.2.2.1.1 k hk
  exact h
theorem wG_P (hl : l.stackTraces = false) : qc_P (wG l s0 D cA b L xs x9 sd) qp_ts sd := ⟨hl, fun w hw U hU => hU.2.2.1 w (Or.inr hw), fun q hq U hU => hU.2.2.2.1 q (Or.inl hq), fun U hU => hU.2.2.2.2.2.2.2.2.2.2.2.1, fun U hU => hU.2.2.2.2.2.2.2.2.2.2.2.2.1, fun q hq U hU => hU.2.2.2.2.2.2.2.2.2.2.2.2.2 q hq⟩
theorem wG_X : qw_X (wG l s0 D cA b L xs x9 sd) := fun U hU => hU.2.2.2.1 ("java/lang/IndexOutOfBoundsException", "java/lang/IllegalStateException") (Or.inr rfl)
theorem wG_S (hb : b < s0.heap.size) : qw_S (wG l s0 D cA b L xs x9 sd) b L xs := ⟨Nat.not_le.mpr hb, fun U hU => ⟨Nat.lt_of_lt_of_le hb hU.2.1, hU.1⟩⟩
end
/-- the law's answer -/
def lwK : Int32 → qc_H → Prop := fun r _ => r = 1
def lwX : String → qc_H → Prop := fun _ _ => False
theorem law_wp {g : qh_G} {x9 : qc_X} {sd : String → Nat → Nat} (hO : qc_O g x9) (hP : qc_P g qp_ts sd) (hX : qw_X g) {b L : Nat} {xs : Nat → Int32} (hL : L ≤ 448) (hS : qw_S g b L xs) : qc_wp g x9 17 1128402 I_L_law 0 [some (.ref b), none, none, none, none, none, none] [] (fun _ => none) (oX (oZ lwK) lwX) := by
  refine C_L_st (d := 9) (a0 := b) hO hP (fun _ => none) (1126400 + 2002) (fun a1 a2 a3 h c => c = 1126400 ∧ ∃ L0 fa, L0 0 = a1 ∧ stF g L0 a2 a3 fa h) (st_L (fun _ => rfl) fun LS fa m o h F => ⟨rfl, _, fa, rfl, F⟩) ?_
  rintro a1 m o h c ⟨rfl, L0, fa, rfl, F⟩
  have F' := F
  obtain ⟨inj, ⟨q0, ⟨f1, q1, e1⟩, ⟨f2, q2, e2⟩, ⟨f3, q3, e3⟩, _⟩, _⟩ := F'
  have n21 : L0 2 ≠ L0 1 := fun z => by have := inj 2 1 (by omega) (by omega) z; omega
  have n31 : L0 3 ≠ L0 1 := fun z => by have := inj 3 1 (by omega) (by omega) z; omega
  have n32 : L0 3 ≠ L0 2 := fun z => by have := inj 3 2 (by omega) (by omega) z; omega
  have hN : stN g (stLL L0 m o fa) h = qc_up (qc_up (qc_up h (L0 1) (.inl (.inl (g.2.2.2.1 4, 3, .inr (.inr (.inr (.inr (fun l => some (stLL L0 m o fa (10 + l)))))))))) (L0 2) (.inl (.inl (g.2.2.2.1 5, 6, .inr (.inr (.inr (.inr (fun s => some (stLL L0 m o fa (16 + s)))))))))) (L0 3) (.inl (.inl (g.2.2.2.1 8, 6, .inr (.inr (.inr (.inr (fun s => some (stLL L0 m o fa (4 + s))))))))) := rfl
  refine qc_norm (k := 4) (f' := fun l => some (stLL L0 m o fa (10 + l))) q1 (fun j hj => by rw [e1 j hj, stLL_lt (by omega)]) ?_
  refine qc_norm (k := 5) (n := 6) (f := f2) (f' := fun s => some (stLL L0 m o fa (16 + s))) (a := L0 2) (by rw [qc_up_n n21]; exact q2) (fun j hj => by rw [e2 j hj, stLL_lt (by omega)]) ?_
  refine qc_norm (k := 8) (n := 6) (f := f3) (f' := fun s => some (stLL L0 m o fa (4 + s))) (a := L0 3) (by rw [qc_up_n n32, qc_up_n n31]; exact q3) (fun j hj => by rw [e3 j hj, stLL_lt (by omega)]) ?_
  rw [← hN]
  exact C_L_law (d := 0) hO hP hX hS (L0 0) m o _ 1126400 lwK lwX (law_T (L := stLL L0 m o fa) (st_lG F) hL (st_lZ F) (by decide) (fun _ => rfl))
theorem qc_R_0 {g : qh_G} {x9 : qc_X} : qc_R g x9 (fun _ => none) (fun _ => none) := ⟨fun _ => none, fun a e h => (by cases h), fun p xs h => (by cases h), fun a p h => (by cases h)⟩
/-- the law's contract at its start -/
theorem law_S {g : qh_G} {x9 : qc_X} {sd : String → Nat → Nat} (hO : qc_O g x9) (hP : qc_P g qp_ts sd) (hX : qw_X g) {b L : Nat} {xs : Nat → Int32} (hL : L ≤ 448) (hS : qw_S g b L xs) : qh_S g 17 1128402 I_L_law [.ref b] (fun _ => none) (fun r t => ∃ h', qc_R g x9 h' t ∧ oX (oZ lwK) lwX r h') :=
  qh_S.of (by decide) rfl (ls := [some (.ref b), none, none, none, none, none, none]) rfl (Nat.le_of_ble_eq_true rfl) (fun v hv => by
    rw [List.mem_singleton] at hv
    rw [hv]
    rfl) (law_wp hO hP hX hL hS _ qc_R_0)
theorem mk_atoms {args : Array Value} {s : State} : ∀ {ws : List Cond}, (∀ w ∈ ws, w.before args s = true) → (allAtoms ws).before args s = true
  | [], _ => rfl
  | a :: l, h => by
    show (Jvm.Cond.and a (allAtoms l)).before args s = true
    rw [Cond.before_and, Bool.and_eq_true]
    exact ⟨h a List.mem_cons_self, mk_atoms fun w hw => h w (List.mem_cons_of_mem _ hw)⟩
/-- a smaller room is had where a larger is -/
theorem lw_room {s : State} {pl : Platform} {r r' : Room} (h : s.hasRoom pl r' = true) (h1 : r.frames ≤ r'.frames) (h2 : r.locals ≤ r'.locals) (h3 : r.cells ≤ r'.cells) (h4 : r.slots ≤ r'.slots) : s.hasRoom pl r = true := by
  unfold State.hasRoom at h ⊢
  simp only [Bool.and_eq_true, decide_eq_true_eq] at h ⊢
  obtain ⟨⟨⟨⟨y, a, b, c, d, e⟩, f⟩, g⟩, i⟩ := h
  refine ⟨⟨⟨⟨?_, ?_, ?_, ?_, ?_, e⟩, ?_⟩, ?_⟩, i⟩ <;> omega
theorem lw_comes (l : Launch) (hflags : l.flags = flags0) : Comes l x (Jvm.Cond.code x code maxLocals ret :: tables_1) room_1 (fun tb e args s => Calls_1 tb e args s ∧ rest_1 tb e args s ∧ Pre_1 tb e args s)
    (fun _ _ args s o t => lw_Q args s o t) := by
  intro p e ha hc hk s m args below hf hfit hheap happ hpre
  obtain ⟨b, xs, rfl, hx, hbd, hgv⟩ := lw_pre_spec hpre.2.2 hpre.2.1
  obtain ⟨scr, harrAt, hlist, hof, hsmall⟩ := hx
  obtain ⟨hcb, hkn, -, -⟩ := State.arrayAt?_spec harrAt
  have hsz : scr.slots.size = xs.length := by rw [← Array.length_toList, hlist, List.length_map]
  have hval : ∀ j : Nat, j < xs.length → scr.slots[j]? = some (.int (xs.getD j 0)) := fun j hj => by
    rw [← Array.getElem?_toList, hlist]
    simp [hj]
  have hbl : b < s.heap.size := (Array.getElem?_eq_some_iff.mp hcb).1
  have hX : va_X b xs.length (fun j => xs.getD j 0) s s.heap := ⟨scr, hcb, hof, hkn, hsz, hval⟩
  have happ' := ((Spec.applies_iff_loose hf).mp happ).1
  have hpr := ((Spec.appliesLoose_iff hf).mp happ').2.2.2.2.2.2.2
  have hts0 : ∀ c ∈ (Jvm.Cond.code x code maxLocals ret :: tables_1), c.before #[Value.ref b] s = true := atoms_spec (ws := Jvm.Cond.code x code maxLocals ret :: tables_1) hpr
  have hts : ∀ w ∈ lw_tbl, w.before #[Value.ref b] s = true := k2_hts_sels lw_privs (fun w hw => hts0 w (List.mem_cons_of_mem _ hw)) lw_privs_ok
  obtain ⟨D, cA, hK⟩ := wK hts
  obtain ⟨x9, sd, hw0, hinj⟩ := w_start hts hX hbl hgv
  have hl : l.stackTraces = false := by
    unfold Launch.stackTraces
    rw [hflags]
    decide
  have hS := law_S (g := wG l s D cA b xs.length (fun j => xs.getD j 0) x9 sd) (wG_O hw0 hinj) (wG_P hl) wG_X hbd (wG_S hbl)
  have hPc : qh_P (wG l s D cA b xs.length (fun j => xs.getD j 0) x9 sd) (fun _ => none) s := ⟨⟨[], fun a e h => (by cases h), fun k q h => (by cases h), fun i j p q h => (by cases h), fun k q h => (by cases h)⟩, hK, hw0, fun q h => h, wX_St hbl⟩
  have hS' := hS
  have happ2 : (headSpec (qh_hd I_L_law :: lw_all) (qh_room 17 1128402)).appliesLoose x e.platform s = true := by
    obtain ⟨a1, a2, a3, a4, a5, a6, a7, _⟩ := (Spec.appliesLoose_iff hf).mp happ'
    refine (Spec.appliesLoose_iff hf).mpr ⟨a1, a2, a3, a4, a5, a6, lw_room a7 (by decide) (by decide) (by decide) (by decide), mk_atoms (ws := qh_hd I_L_law :: lw_all) fun w hw => ?_⟩
    rcases List.mem_cons.mp hw with rfl | hw
    · exact hts0 _ List.mem_cons_self
    · exact hts w (lw_all_tbl hw)
  obtain ⟨k, o, h1, h2, h3, hQ⟩ := hS' p e ha hc hk s m _ below hf happ2 ⟨rfl, hPc⟩ trivial
  refine ⟨k, o, h1, h2, h3, ?_⟩
  rcases hQ with ⟨⟨v, τ', rfl, ⟨h', _, hq⟩, _, _⟩, Ls, hE, hfree⟩ | ⟨q, rfl, E, ce, Ls, ⟨τ', ⟨h', _, hq⟩, _⟩, _⟩
  · rcases hq with ⟨r, hr, -, hr1⟩ | ⟨E, hr, _⟩
    · have hr1 : r = 1 := hr1
      cases hr
      subst hr1
      refine ⟨rfl, ⟨_, rfl⟩, hE.2.1, hE.2.2.weaken (fun y hy hlt => absurd hlt (Nat.not_lt.mpr (hfree y hy))) (by decide) (by decide)⟩
    · cases hr
  · rcases hq with ⟨r, hr, _⟩ | ⟨E', _, hr⟩
    · cases hr
    · exact hr.elim
theorem lw_frame {s t : State} {o : Outcome} {args : Array Value} (h : Framed s o t [] 1200384 5485226) :
    Framed s o t (fieldLocs frame_1_writes args s ++ arrayLocs frame_1_arrays args s ++ staticLocs frame_1_statics s) 1200384 5485226 := h
theorem lw_limb (L : Cond) (hL : ∀ (args : Array Value) (s t : State), L.after args s (.returned (some (.int 1))) t = true) :
    ArmFor flags0 classFile x code maxLocals ret World_1 tables_1 room_1 Calls_1 rest_1 Pre_1
      (fun tb e a s o t => postC L tb e a s o t ∧ Framed s o t (fieldLocs frame_1_writes a s ++ arrayLocs frame_1_arrays a s ++ staticLocs frame_1_statics s) 1200384 5485226) := by
  intro l hflags _ _ p e ha hc hk s m args below hf hfit hheap happ hpre
  obtain ⟨k, o, h1, h2, h3, rfl, hF⟩ := lw_comes l hflags p e ha hc hk s m args below hf hfit hheap happ hpre
  exact ⟨k, _, h1, h2, h3, hL args s _, lw_frame hF⟩
theorem i_vc : Claimed_1_1 ∧ Claimed_1_2 := ⟨lw_limb limb_1_1 (fun args s t => by simp [limb_1_1, Cond.after, Cond.holds, Cond.value]), lw_limb limb_1_2 (fun args s t => Cond.after_iff.mpr (by
  first | (rw [show limb_1_2 = Cond.eq .result (.int 1) from rfl, Cond.eq_ints (x := 1) (y := 1) rfl rfl]; simp; done) | (simp [limb_1_2, Cond.value, Term.eval]; done)))⟩
