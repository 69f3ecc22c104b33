/-! SP 25: a question asked -/
set_option maxRecDepth 100000
def kf_f0 : Nat → Int32 := fun k => if k = 3 then -1 else 0
/-- 0: it is answered; what else is thrown -/
def kf_askc (A : qkA) (a b : Int32) : Nat := if a < 0 ∨ 200 < a then 1 else if b < 0 ∨ 200 < b then 1 else if (aSeat A).length = 0 ∨ (aOut A).length = 0 then 2 else 0
/-- behind the taking of all seats -/
def kf_askt (A : qkA) (a b : Int32) : qkA × (Nat → qkSeat) × (Nat → Int32) × List Int32 := kf_takes (aSeat A).length a (aQ A 15) b (aSeat A).length A (kf_ss0 A) kf_f0 []
def kf_askp (A : qkA) (a b : Int32) : Int32 × Int32 × (Nat → Int32) := kf_gath (kf_askt A a b).1 (kf_askt A a b).2.1 (kf_askt A a b).2.2.1 (aSeat A).length
/-- the answer: its rows, its scalars, what was taken -/
abbrev qkAns : Type := List qkV × (Nat → Int32) × List Int32
def kf_ans (A : qkA) (a b : Int32) : qkAns := (kf_vs (kf_askt A a b).1 (kf_askt A a b).2.1 (aSeat A).length, upd (kf_askp A a b).2.2 3 (kf_claim (kf_askp A a b)), (kf_askt A a b).2.2.2)
theorem cnt_0 {A : qkA} : ∀ {k : Nat}, kf_cnt (kf_ss0 A) k = 0
  | 0 => rfl
  | k + 1 => by
    rw [kf_cnt, cnt_0]
    rfl
section
variable {g : qh_G} {L : Nat → Nat} {J h : qc_H} {A : qkA} {c : Nat}
theorem kt_ansInit {w : Nat} {K : qc_H → Prop} (R : qkRep g L J h A) (hw : h w = some (.inl (.inr (5, [.null, .null, .int 0, .int 0, .int 0, .int 0, .int 0])))) (hwF : qkF L w) (hc : 8 ≤ c)
    (hk : ∀ h' arl atl, qkRep g L J h' A → h' w = some (qkAn arl atl kf_f0) → h' arl = some (.inr []) → h' atl = some (.inr []) → h arl = none → h atl = none → arl ≠ atl → qkFx L (fun a => a = w) h h' → K h') : T_X6_init g w h c K := by
  unfold T_X6_init
  have hwJ := R.mu hw (Or.inl rfl)
  refine kt_newL (by omega) fun arl har => ?_
  have hna : w ≠ arl := fun z => by rw [z, har] at hw; cases hw
  have harF := R.fresh har
  have harJ := R.Jn har
  refine ⟨_, by rw [qc_up_n hna]; exact hw, by simp, kt_newL (by omega) fun atl hat => ?_⟩
  have hnt : w ≠ atl := fun z => by rw [z, qc_up_s] at hat; cases hat
  have hrt : arl ≠ atl := fun z => by rw [← z, qc_up_n hna.symm, qc_up_s] at hat; cases hat
  have hat0 : h atl = none := by rw [qc_up_n hnt.symm, qc_up_n hrt.symm] at hat; exact hat
  have hatF := R.fresh hat0
  have hatJ := R.Jn hat0
  refine ⟨_, by rw [qc_up_n hnt]; exact qc_up_s, by simp, ?_⟩
  refine ⟨_, qc_up_s, by simp, ?_⟩
  rw [qc_up_up]
  have R1 := (((R.other (e := .inr []) harF harJ).other (e := .inl (.inr (5, [.ref arl, .null, .int 0, .int 0, .int 0, .int 0, .int 0]))) hwF hwJ).other (e := .inr []) hatF hatJ).other (e := qkAn arl atl kf_f0) hwF hwJ
  refine hk _ arl atl R1 qc_up_s ?_ ?_ har hat0 hrt ?_
  · rw [qc_up_n hna.symm, qc_up_n hrt, qc_up_n hna.symm, qc_up_s]
  · rw [qc_up_n hnt.symm, qc_up_s]
  · intro a _ hd hn
    rw [qc_up_n hd, qc_up_n (fun z => hn (by rw [z]; exact hat0)), qc_up_n hd, qc_up_n (fun z => hn (by rw [z]; exact har))]
theorem kt_ask {a b : Int32} {lim : Nat} {K : Int32 → qc_H → Prop} {KX : String → qc_H → Prop} (R : qkRep g L J h A) (hgd : qkGd A) (hsrc : ∀ (k : Nat) (v : Int32), (aSeat A)[k]? = some v → ∃ s, s < 6 ∧ v = nI s) (hn3 : (aSeat A).length ≤ 3) (hcl : (aCond A).length ≤ 4) (hok : ∀ cd ∈ aCond A, qkOk cd) (hlk : ∀ l ∈ aLink A, qkLk l) (ho : ∀ o ∈ aOut A, qkOo (aSeat A).length o) (ho3 : (aOut A).length ≤ 3) (hlim : aQ A 10 = nI lim) (hl : lim ≤ 40) (hc : 15000 ≤ c)
    (k1 : kf_askc A a b = 1 → KX xA h) (k2 : kf_askc A a b = 2 → KX xS h)
    (k0 : kf_askc A a b = 0 → ∀ J' h' an arl atl, qkJw h J J' → qkRep g L J' h' (kf_askt (sLa A an) a b).1 → aLa (kf_askt (sLa A an) a b).1 = an → qkTk (sLa A an) (kf_askt (sLa A an) a b).1 → qkGd (kf_askt (sLa A an) a b).1 → qkF L an → qkF L arl → qkF L atl → h' an = some (qkAn arl atl (kf_ans (sLa A an) a b).2.1) → qkVs g L J' h h' arl (kf_ans (sLa A an) a b).1 → qkR (isInt J') h' atl (kf_ans (sLa A an) a b).2.2 → h an = none → h arl = none → h atl = none → qkFr L h h' → K (nI (kf_ans (sLa A an) a b).1.length) h') : T_X1_ask g (L 0) a b h c K KX := by
  unfold T_X1_ask
  unfold kf_askc at k1 k2 k0
  refine ek 7 (by omega) (kt_inRange (Nat.le_refl 7) (fun p1 p2 => ?_) (fun z => k1 (by rw [if_pos z])))
  have pa : ¬ (a < 0 ∨ 200 < a) := by rintro (z | z); exact p1 z; exact p2 z
  rw [if_neg pa] at k1 k2 k0
  refine ek 7 (by omega) (kt_inRange (Nat.le_refl 7) (fun p3 p4 => ?_) (fun z => k1 (by rw [if_pos z])))
  have pb : ¬ (b < 0 ∨ 200 < b) := by rintro (z | z); exact p3 z; exact p4 z
  rw [if_neg pb] at k1 k2 k0
  refine ⟨_, _, R.x, rfl, rl_empty R.seats fun J11 hJ11 => ?_⟩
  have bad : (aSeat A).length = 0 ∨ (aOut A).length = 0 → J11 0 := fun z => by
    rw [if_pos z] at k2
    exact hJ11 0 (ek 7 (by omega) (kt_allowed (Nat.le_refl 7) (fun q => absurd rfl q) (fun _ => k2 rfl)))
  by_cases hz : (aSeat A).length = 0 ∨ (aOut A).length = 0
  · refine ⟨fun _ => bad hz, fun z => ⟨_, _, R.x, rfl, rl_empty R.outs ⟨fun _ => bad hz, fun z1 => ?_⟩⟩⟩
    exfalso
    rcases hz with q | q
    · rw [if_pos q] at z
      exact absurd z (by decide)
    · rw [if_pos q] at z1
      exact absurd z1 (by decide)
  have hne : (aSeat A).length ≠ 0 ∧ (aOut A).length ≠ 0 := ⟨fun q => hz (Or.inl q), fun q => hz (Or.inr q)⟩
  rw [if_neg hz] at k0
  suffices good : J11 1 by
    refine ⟨fun z => absurd (by rw [if_neg hne.1]) z, fun z => ⟨_, _, R.x, rfl, rl_empty R.outs ⟨fun z1 => absurd (by rw [if_neg hne.2]) z1, fun _ => good⟩⟩⟩
  refine hJ11 1 (ek 7 (by omega) (kt_allowed (Nat.le_refl 7) (fun _ => ?_) (fun q => absurd q (by decide))))
  clear bad hJ11 k1 k2
  refine ⟨c - 7 - 7 - 7 - 8, by omega, fun an han => ?_⟩
  have hanF := R.fresh han
  have hanJ := R.Jn han
  have R1 := R.other (e := .inl (.inr (5, [.null, .null, .int 0, .int 0, .int 0, .int 0, .int 0]))) hanF hanJ
  refine ek 8 (by omega) (kt_ansInit R1 qc_up_s hanF (Nat.le_refl 8) fun h2 arl atl R2 ha2 har2 hat2 har1 hat1 hrt F2 => ?_)
  have up1 : ∀ x, (qc_up h an (.inl (.inr (5, [.null, .null, .int 0, .int 0, .int 0, .int 0, .int 0]))) : qc_H) x = none → h x = none := fun x z => by
    by_cases q : x = an
    · rw [q]; exact han
    · rw [qc_up_n q] at z; exact z
  have har0 := up1 arl har1
  have hat0 := up1 atl hat1
  have harF := R.fresh har0
  have hatF := R.fresh hat0
  have harJ := R.Jn har0
  have hatJ := R.Jn hat0
  have Fr2 : qkFr L h h2 := fun x hx hn => by
    have q : x ≠ an := fun z => hn (by rw [z]; exact han)
    rw [F2 x hx q (by rw [qc_up_n q]; exact hn), qc_up_n q]
  have up2 : ∀ x, h2 x = none → h x = none := fun x z => up1 x (hd_of R2 F2 (fun y e => by rw [e, ha2]; intro z; cases z) x z)
  clear F2 up1 har1 hat1 R1
  have R3 := R2.pQ (v := aQ A) (la := an)
  refine ⟨_, R2.x, by simp [qkO], ?_⟩
  have F3 : ∀ x, qkF L x → (qc_up h2 (L 0) (.inl (.inr (0, qkO L (aQ A) an))) : qc_H) x = h2 x := fun x hx => qc_up_n (hx 0 (by decide))
  have up3 : ∀ x, (qc_up h2 (L 0) (.inl (.inr (0, qkO L (aQ A) an))) : qc_H) x = none → h2 x = none := fun x z => by
    by_cases q : x = L 0
    · rw [q, qc_up_s] at z; cases z
    · rw [qc_up_n q] at z; exact z
  change qkRep g L J _ (sLa A an) at R3
  have eset : (qkO L (aQ A) (aLa A)).set 12 (.ref an) = qkO L (aQ A) an := rfl
  rw [eset]
  generalize qc_up h2 (L 0) (.inl (.inr (0, qkO L (aQ A) an))) = h3 at R3 F3 up3 ⊢
  have hsl : (aSeat (sLa A an)).length = (aSeat A).length := rfl
  refine ⟨_, aQ A 15, R3.x, rfl, _, _, R3.x, rfl, rl_size R3.seats ⟨nI_pos (by omega), by rw [nI_clamp (by omega)]; omega, c - 7 - 7 - 7 - 8 - 8 - ((aSeat A).length + 1), by rw [nI_clamp (by omega)]; omega, fun al hal => ?_⟩⟩
  rw [nI_clamp (by omega)]
  have halF := R3.fresh hal
  have R4 := R3.other (e := .inl (.inl (g.2.2.2.1 7, (aSeat A).length, .inr (.inr (.inr (.inr (fun _ => none))))))) halF (R3.Jn hal)
  have F4 : ∀ x, x ≠ al → (qc_up h3 al (.inl (.inl (g.2.2.2.1 7, (aSeat A).length, .inr (.inr (.inr (.inr (fun _ => none))))))) : qc_H) x = h3 x := fun x q => qc_up_n q
  have hal4 : (qc_up h3 al (.inl (.inl (g.2.2.2.1 7, (aSeat A).length, .inr (.inr (.inr (.inr (fun _ => none))))))) : qc_H) al = some _ := qc_up_s
  show ∀ X28 : Int32 → qc_H → Nat → Prop, _ → X28 0 (qc_up h3 al (.inl (.inl (g.2.2.2.1 7, (aSeat A).length, .inr (.inr (.inr (.inr (fun _ => none)))))))) _
  generalize qc_up h3 al (.inl (.inl (g.2.2.2.1 7, (aSeat A).length, .inr (.inr (.inr (.inr (fun _ => none))))))) = h4 at R4 F4 hal4 ⊢
  have keep4 : ∀ {x : Nat} {e : qc_E}, qkF L x → h2 x = some e → h4 x = some e := fun {x e} hx q => by
    have q3 : h3 x = some e := by rw [F3 x hx]; exact q
    rw [F4 x (fun z => by rw [z, hal] at q3; cases q3)]
    exact q3
  have up4 : ∀ x, h4 x = none → h x = none := fun x z => by
    by_cases q : x = al
    · rw [q, hal4] at z; cases z
    · rw [F4 x q] at z
      exact up2 x (up3 x z)
  have Fr4 : qkFr L h h4 := fun x hx hn => by
    cases hz : h x with
    | none => exact absurd hz hn
    | some e =>
      have := Fr2 x hx hn
      rw [hz] at this
      exact keep4 hx this
  have ha4 := keep4 hanF ha2
  have har4 := keep4 harF har2
  have hat4 := keep4 hatF hat2
  refine kt_seats (cc := 14100) R4 hsl hn3 hsrc hcl hal4 halF (by omega) fun J5 h5 c5 sa rl w5 R5 S5 hS5 hrl5 F5 up5 hc5 => ?_
  have ne_al : ∀ {x : Nat} {e : qc_E}, h4 x = some e → (∀ n' y, e ≠ .inl (.inl (g.2.2.2.1 7, n', .inr y))) → x ≠ al := fun q hq z => by
    rw [z, hal4] at q
    cases q
    exact hq _ _ rfl
  have keep5 : ∀ {x : Nat} {e : qc_E}, qkF L x → h4 x = some e → (∀ n' y, e ≠ .inl (.inl (g.2.2.2.1 7, n', .inr y))) → h5 x = some e := fun hx q hq => F5.at hx (ne_al q hq) q
  have ha5 := keep5 hanF ha4 (fun _ _ z => by cases z)
  have har5 := keep5 harF har4 (fun _ _ z => by cases z)
  have hat5 := keep5 hatF hat4 (fun _ _ z => by cases z)
  have w05 : qkJw h J J5 := qkJw.rf.tr w5 up4
  have T5 : qkTS g L J h J5 h5 (sLa A an) (aSeat A).length al an arl atl sa rl (kf_ss0 (sLa A an)) kf_f0 [] := by
    refine ⟨R5, S5, rfl, ha5, hanF, ⟨har5, harF, w5.at R5.jh (by rw [har4]; intro z; cases z) harJ har5⟩, ⟨⟨[], hat5, qkL.nil, Nat.zero_le _⟩, hatF, w5.at R5.jh (by rw [hat4]; intro z; cases z) hatJ hat5⟩, hrt, hgd, fun i hi => ?_, hrl5, ⟨han, har0, hat0⟩, fun x hx hn => ?_, fun x z => up4 x (up5 x z), w05, halF⟩
    · obtain ⟨s1, s2, s3, s4, s5⟩ := hS5 i hi
      refine ⟨rfl, s2, fun z => ?_, fun z => ?_, qkRs.nil, s3, fun _ => s1, fun cd hcd => hok cd (List.mem_filter.mp hcd).1, fun cd hcd => hok cd (List.mem_filter.mp (List.mem_filter.mp hcd).1).1, up4 _ s5, up4 _ s4⟩
      · rw [z, har4] at s4; cases s4
      · rw [z, hat4] at s4; cases s4
    · by_cases q : x = al
      · exfalso
        rw [q] at hn hx
        have := Fr4 al hx hn
        apply hn
        exact up2 al (up3 al hal)
      · rw [F5 x hx q (by rw [Fr4 x hx hn]; exact hn), Fr4 x hx hn]
  intro X34 hX34
  refine kt_takes (cc := 3060) hn3 hX34 (aSeat A).length 0 (sLa A an) (kf_ss0 (sLa A an)) kf_f0 [] rl J5 h5 c5 (by omega) cnt_0 rfl T5 (fun l hl' => (hlk l hl').2) (by omega) fun J6 h6 c6 rl6 T6 t6 hc6 => ?_
  change qkTS g L J h J6 h6 (kf_askt (sLa A an) a b).1 (aSeat A).length al an arl atl sa rl6 (kf_askt (sLa A an) a b).2.1 (kf_askt (sLa A an) a b).2.2.1 (kf_askt (sLa A an) a b).2.2.2 at T6
  change qkTk (sLa A an) (kf_askt (sLa A an) a b).1 at t6
  have k6 := k0 rfl J6
  have hp : kf_askp (sLa A an) a b = kf_gath (kf_askt (sLa A an) a b).1 (kf_askt (sLa A an) a b).2.1 (kf_askt (sLa A an) a b).2.2.1 (aSeat A).length := rfl
  have hans : kf_ans (sLa A an) a b = (kf_vs (kf_askt (sLa A an) a b).1 (kf_askt (sLa A an) a b).2.1 (aSeat A).length, upd (kf_askp (sLa A an) a b).2.2 3 (kf_claim (kf_askp (sLa A an) a b)), (kf_askt (sLa A an) a b).2.2.2) := rfl
  have k7 : ∀ h', qkRep g L J6 h' (kf_askt (sLa A an) a b).1 → aLa (kf_askt (sLa A an) a b).1 = an → qkTk (sLa A an) (kf_askt (sLa A an) a b).1 → qkGd (kf_askt (sLa A an) a b).1 → h' an = some (qkAn arl atl (upd (kf_askp (sLa A an) a b).2.2 3 (kf_claim (kf_askp (sLa A an) a b)))) → qkVs g L J6 h h' arl (kf_vs (kf_askt (sLa A an) a b).1 (kf_askt (sLa A an) a b).2.1 (aSeat A).length) → qkR (isInt J6) h' atl (kf_askt (sLa A an) a b).2.2.2 → qkFr L h h' → K (nI (kf_vs (kf_askt (sLa A an) a b).1 (kf_askt (sLa A an) a b).2.1 (aSeat A).length).length) h' := fun h' r1 r2 r3 r4 r5 r6 r7 r8 => k6 h' an arl atl T6.2.2.2.2.2.2.2.2.2.2.2.2.2.2.1 r1 r2 r3 r4 hanF harF hatF r5 r6 r7 han har0 hat0 r8
  clear k6 k0 hans
  rw [hp] at k7
  clear hp
  have hout : ∀ o ∈ aOut (kf_askt (sLa A an) a b).1, qkOo (aSeat A).length o := by rw [t6.2.2.2.2.2.2.2.2.1]; exact ho
  have hout1 : 1 ≤ (aOut (kf_askt (sLa A an) a b).1).length := by rw [t6.2.2.2.2.2.2.2.2.1]; show 1 ≤ (aOut A).length; omega
  have hout3 : (aOut (kf_askt (sLa A an) a b).1).length ≤ 3 := by rw [t6.2.2.2.2.2.2.2.2.1]; exact ho3
  have hlim6 : aQ (kf_askt (sLa A an) a b).1 10 = nI lim := (t6.1 10 (by decide)).trans hlim
  have hlk6 : ∀ l ∈ aLink (kf_askt (sLa A an) a b).1, qkLk l := by rw [t6.2.2.2.2.2.2.1]; exact hlk
  generalize (kf_askt (sLa A an) a b).1 = A6 at T6 t6 k7 hout hout1 hout3 hlim6 hlk6 ⊢
  generalize (kf_askt (sLa A an) a b).2.1 = ss at T6 k7 ⊢
  generalize (kf_askt (sLa A an) a b).2.2.1 = f6 at T6 k7 ⊢
  generalize (kf_askt (sLa A an) a b).2.2.2 = tk at T6 k7 ⊢
  clear T5 hX34 hrl5 hS5 S5 R5
  have T6' := T6
  obtain ⟨R6, S6, hla6, ha6, -, ⟨har6, -, harJ6⟩, ⟨hat6, -, hatJ6⟩, -, hgd6, hT6, hinj6, -, Fr6, up6, w06, -⟩ := T6'
  refine kt_newL (by omega) fun rw' hrw => ⟨_, aQ A6 14, (R6.other (R6.fresh hrw) (R6.Jn hrw)).x, rfl, ?_⟩
  obtain ⟨-, ⟨Fa, ea, -⟩, hSs, -⟩ := S6
  have ea' : (qc_up h6 rw' (.inr []) : qc_H) al = some (.inl (.inl (g.2.2.2.1 7, (aSeat A).length, .inr (.inr (.inr (.inr Fa)))))) := by
    rw [qc_up_n (by intro z; rw [z, hrw] at ea; cases ea)]
    exact ea
  refine ⟨_, ea', ?_⟩
  refine kt_gather (cc := 3004) T6 hrw (by omega) fun h7 c7 R7 ha7 hr7 F7 hc7 => ?_
  generalize kf_gath A6 ss f6 (aSeat A).length = p at ha7 k7 ⊢
  refine ⟨_, _, R7.x, rfl, _, _, R7.x, rfl, _, p.2.2 2, by rw [hla6]; exact ha7, rfl, fun J57 hJ57 => ?_⟩
  have ne6 : ∀ {x : Nat} {e : qc_E}, h6 x = some e → x ≠ rw' := fun q z => by
    rw [z, hrw] at q
    cases q
  have keep7 : ∀ {x : Nat} {e : qc_E}, x ≠ an → h6 x = some e → h7 x = some e := fun hx q => by
    rw [F7 _ hx (ne6 q)]
    exact q
  have fin : J57 (kf_claim p) := by
    refine hJ57 _ ⟨_, by rw [hla6]; exact ha7, by simp, ?_⟩
    rw [hla6]
    have eset2 : (.inl (.inr (5, [Value.ref arl, .ref atl, .int (p.2.2 2), .int (p.2.2 3), .int (p.2.2 4), .int (p.2.2 5), .int (p.2.2 6)].set 3 (.int (kf_claim p)))) : qc_E) = qkAn arl atl (upd p.2.2 3 (kf_claim p)) := by
      unfold qkAn
      rw [upd_s, upd_n (by decide), upd_n (by decide), upd_n (by decide), upd_n (by decide)]
      rfl
    rw [eset2]
    have haJ6 := R6.mu ha6 (Or.inl rfl)
    have R8 := R7.other (e := qkAn arl atl (upd p.2.2 3 (kf_claim p))) hanF haJ6
    have ha8 : (qc_up h7 an (qkAn arl atl (upd p.2.2 3 (kf_claim p))) : qc_H) an = some _ := qc_up_s
    have keep8 : ∀ {x : Nat} {e : qc_E}, x ≠ an → h6 x = some e → (qc_up h7 an (qkAn arl atl (upd p.2.2 3 (kf_claim p))) : qc_H) x = some e := fun hx q => by
      rw [qc_up_n hx]
      exact keep7 hx q
    have hr8 : (qc_up h7 an (qkAn arl atl (upd p.2.2 3 (kf_claim p))) : qc_H) rw' = some (.inr ((List.range (aSeat A).length).map rl6)) := by rw [qc_up_n (ne6 ha6).symm]; exact hr7
    have up8 : ∀ x, (qc_up h7 an (qkAn arl atl (upd p.2.2 3 (kf_claim p))) : qc_H) x = none → h x = none := fun x z => by
      by_cases q1 : x = an
      · rw [q1, qc_up_s] at z; cases z
      · by_cases q2 : x = rw'
        · rw [q2, hr8] at z; cases z
        · rw [qc_up_n q1, F7 x q1 q2] at z
          exact up6 x z
    have Fr8 : qkFr L h (qc_up h7 an (qkAn arl atl (upd p.2.2 3 (kf_claim p)))) := fun x hx hn => by
      have q1 : x ≠ an := fun z => hn (by rw [z]; exact han)
      have q2 : x ≠ rw' := fun z => by
        have := Fr6 x hx hn
        rw [z, hrw] at this
        rw [z] at hn
        exact hn this.symm
      rw [qc_up_n q1, F7 x q1 q2]
      exact Fr6 x hx hn
    generalize qc_up h7 an (qkAn arl atl (upd p.2.2 3 (kf_claim p))) = h8 at R8 ha8 keep8 hr8 up8 Fr8 ⊢
    refine ⟨_, _, R8.x, rfl, ⟨_, R8.x⟩, ek 3004 (by omega) ?_⟩
    rw [hla6]
    have ar_an : arl ≠ an := fun z => by rw [z, ha6] at har6; cases har6
    have at_an : atl ≠ an := fun z => by
      obtain ⟨xt, q, -⟩ := hat6
      rw [z, ha6] at q
      cases q
    refine kt_walk (n := (aSeat A).length) (lim := lim) (rss := fun s => (ss s).2.2.2.1) R8 ha8 hanF (keep8 ar_an har6) harF harJ6 hn3 hout hout1 hout3 hlim6 hl hlk6 hr8 (by rw [List.length_map, List.length_range]) (R6.fresh hrw) (ne6 har6).symm (fun s hs => ?_) (walk_len hn3 hlim6 hl (fun s hs => (hT6 s hs).2.2.2.2.1) hout1 hout) (Nat.le_refl _) fun h9 R9 ha9 hv9 F9 => ?_
    · obtain ⟨q1, q2, q3, q4, q5, q6, q7, q8, q9, q10, q11⟩ := hT6 s hs
      obtain ⟨ol, sl, s1, s2, s3, s4, s5, s6⟩ := hSs s hs
      refine ⟨rl6 s, ?_, s5.mono (fun e q => keep8 (fun z => ?_) q) (fun _ _ q => q), q5.1, q2, q3⟩
      · rw [List.getElem?_map, List.getElem?_range hs]
        rfl
      · obtain ⟨ys, y1, -⟩ := s5
        rw [z, ha6] at y1
        cases y1
    · refine ⟨_, _, R9.x, rfl, ⟨_, R9.x⟩, ?_⟩
      rw [hla6]
      refine kt_cut R9 ha9 hv9 harF harJ6 hlim6 hl fun hA RA haA hvA FA => ?_
      refine ⟨_, _, RA.x, rfl, _, _, by rw [hla6]; exact haA, rfl, hvA.size ?_⟩
      have hvv : kf_vs A6 ss (aSeat A).length = (kf_walk A6 (fun s => (ss s).2.2.2.1) (aSeat A).length).take lim := by
        unfold kf_vs
        rw [hlim6, nI_clamp (by omega)]
      rw [← hvv] at hvA ⊢
      have keepA : ∀ {x : Nat} {e : qc_E}, qkF L x → x ≠ arl → h8 x = some e → hA x = some e := fun hx hd q => FA.at hx hd (F9.at hx hd q)
      refine k7 hA RA hla6 t6 hgd6 haA ?_ ?_ fun x hx hn => ?_
      · obtain ⟨xs, x1, x2, x3, x4, x5⟩ := hvA
        exact ⟨xs, x1, x2, x3, x4, fun y hy => ⟨(x5 y hy).1, (x5 y hy).2.1, up8 y (x5 y hy).2.2⟩⟩
      · obtain ⟨xt, t1, t2, t3⟩ := hat6
        exact ⟨xt, keepA hatF hrt.symm (keep8 at_an t1), t2, t3⟩
      · cases hz : h x with
        | none => exact absurd hz hn
        | some e =>
          have := Fr8 x hx hn
          rw [hz] at this
          exact keepA hx (fun z => hn (by rw [z]; exact har0)) this
  unfold kf_claim at fin
  refine ⟨fun z => ?_, fun z => ⟨fun z1 => ?_, fun z1 => ?_⟩⟩
  · rw [if_neg (fun q => z q.1)] at fin
    exact fin
  · rw [if_neg (fun q => q.2 z1)] at fin
    exact fin
  · rw [if_pos ⟨z, z1⟩] at fin
    exact fin
end
