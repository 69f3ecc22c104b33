/-! SP 23: a question's seats taken -/
set_option maxRecDepth 100000
def kf_takes (n : Nat) (fresh b d : Int32) : Nat → qkA → (Nat → qkSeat) → (Nat → Int32) → List Int32 → qkA × (Nat → qkSeat) × (Nat → Int32) × List Int32
  | 0, A, ss, f, tk => (A, ss, f, tk)
  | m + 1, A, ss, f, tk => match kf_next A n ss with
    | none => (A, ss, f, tk)
    | some i => kf_takes n fresh b d m (kf_take A n ss i fresh b d f).1 (qkU ss i (kf_take A n ss i fresh b d f).2.2) (kf_take A n ss i fresh b d f).2.1 (tk ++ [10 * (kf_take A n ss i fresh b d f).2.2.2.2.2.2 0 + (kf_take A n ss i fresh b d f).2.2.2.2.2.2 7])
/-- a seat, at work -/
def qkT1 (L : Nat → Nat) (B J h : qc_H) (arl atl sa rl : Nat) (tk : Bool) (i : Nat) (v : qkSeat) : Prop := v.2.2.2.2 0 = nI i ∧ qkF L rl ∧ rl ≠ arl ∧ rl ≠ atl ∧ qkRs v.2.2.2.1 ∧ J rl = none ∧ (tk = false → h rl = some (.inr [])) ∧ (∀ cd ∈ v.2.1, qkOk cd) ∧ (∀ cd ∈ v.2.2.1, qkOk cd) ∧ B sa = none ∧ B rl = none
/-- a question at work: B is the heap of before -/
def qkTS (g : qh_G) (L : Nat → Nat) (J0 B J h : qc_H) (A : qkA) (n al an arl atl : Nat) (sa rl : Nat → Nat) (ss : Nat → qkSeat) (f : Nat → Int32) (tk : List Int32) : Prop :=
  qkRep g L J h A ∧ qkSs g L J h al n sa rl ss ∧ aLa A = an ∧ h an = some (qkAn arl atl f) ∧ qkF L an ∧ (h arl = some (.inr []) ∧ qkF L arl ∧ J arl = none) ∧ (qkR (isInt J) h atl tk ∧ qkF L atl ∧ J atl = none) ∧ arl ≠ atl ∧ qkGd A ∧ (∀ i, i < n → qkT1 L B J h arl atl (sa i) (rl i) (kf_taken ss i) i (ss i)) ∧ (∀ i j, i < n → j < n → rl i = rl j → i = j) ∧
  (B an = none ∧ B arl = none ∧ B atl = none) ∧ qkFr L B h ∧ (∀ a, h a = none → B a = none) ∧ qkJw B J0 J ∧ qkF L al
section
variable {g : qh_G} {L : Nat → Nat}
theorem kt_takes {al n an arl atl cc : Nat} {fresh b d : Int32} {sa : Nat → Nat} {J0 B : qc_H} {AFTER : qc_H → Nat → Prop} {X : Int32 → qc_H → Nat → Prop} (hn3 : n ≤ 3)
    (hX : ∀ (x35 : Int32) (h36 : qc_H) (c37 : Nat), (eT g.2.2.2.1 7 h36 al (fun v38 => (v38 ≤ x35 → AFTER h36 c37) ∧ (¬ v38 ≤ x35 → eC h36 (L 0) 0 (T_X1_next g (L 0) al h36 (fun r90 => ∃ y91 : Nat, r90 = some y91 ∧ eC h36 (L 0) 0 (eK c37 (fun c93 k92 => T_X1_take g (L 0) y91 al fresh b d h36 k92 (fun h94 => eR h94 (L 0) 0 12 (fun v95 => eR h94 v95 5 1 (fun v96 => eI h94 y91 13 0 (fun v97 => eI h94 y91 13 7 (fun v98 => eBx h94 ((10 * v97) + v98) c93 (fun w101 h99 c100 => eAd g h99 v96 w101 c100 (fun h102 c103 => X (x35 + 1) h102 c103)))))))))))))) → X x35 h36 c37) :
    ∀ (m j : Nat) (A : qkA) (ss : Nat → qkSeat) (f : Nat → Int32) (tk : List Int32) (rl : Nat → Nat) (J h : qc_H) (c : Nat), j + m = n → kf_cnt ss n = j → tk.length = j → qkTS g L J0 B J h A n al an arl atl sa rl ss f tk → (∀ l ∈ aLink A, (∃ q, q < 4 ∧ l.2.1 = nI q) ∧ (∃ q, q < 4 ∧ l.2.2.2 = nI q)) → 3680 * m + cc ≤ c →
      (∀ J' h' c' rl', qkTS g L J0 B J' h' (kf_takes n fresh b d m A ss f tk).1 n al an arl atl sa rl' (kf_takes n fresh b d m A ss f tk).2.1 (kf_takes n fresh b d m A ss f tk).2.2.1 (kf_takes n fresh b d m A ss f tk).2.2.2 → qkTk A (kf_takes n fresh b d m A ss f tk).1 → cc ≤ c' → AFTER h' c') → X (nI j) h c := by
  intro m
  induction m with
  | zero =>
    intro j A ss f tk rl J h c hjm hcnt htl T hlk hc hk
    have hjn : j = n := by omega
    subst hjn
    obtain ⟨F, e1, -⟩ := T.2.1.2.1
    exact hX _ _ _ ⟨_, e1, fun _ => hk J h c rl T qkTk.rf (by omega), fun z => absurd (nI_le (Nat.le_refl _) (by omega)) z⟩
  | succ m ih =>
    intro j A ss f tk rl J h c hjm hcnt htl T hlk hc hk
    obtain ⟨R, S, hla, han, hanF, ⟨har, harF, harJ⟩, ⟨hat, hatF, hatJ⟩, hrt, hgd, hT1, hinj, ⟨hBan, hBar, hBat⟩, hFr, hB, hJ0, halF⟩ := T
    have S0 := S
    obtain ⟨-, ⟨F, e1, eF⟩, hS, hsinj⟩ := S
    refine hX _ _ _ ⟨_, e1, fun z => absurd z (nI_ge (show j < n by omega) (by omega)), fun _ => ⟨⟨_, R.x⟩, kt_next R S0 ?_⟩⟩
    obtain ⟨i, hi⟩ := next_some (A := A) (n := n) (k := n) (ss := ss) (cnt_some (by omega))
    have hin : i < n := kf_nextS_lt hi
    have hnt := next_not hi
    have hi' : kf_next A n ss = some i := hi
    rw [kf_takes, hi'] at hk
    dsimp only at hk
    rw [hi']
    obtain ⟨q1, q2, q3, q4, q5, q6, q7, q8, q9, q10, q11⟩ := hT1 i hin
    obtain ⟨ol, sl, s1, s2, s3, s4, s5, s6⟩ := hS i hin
    have hg := take_gd (n := n) (ss := ss) (i := i) (fresh := fresh) (b := b) (d := d) (f := f) hgd s2 hlk
    have t0 := take_0 (A := A) (n := n) (ss := ss) (i := i) (fresh := fresh) (b := b) (d := d) (f := f)
    have t5 := take_5 (A := A) (n := n) (ss := ss) (i := i) (fresh := fresh) (b := b) (d := d) (f := f)
    have hcap : ∃ m, m ≤ 12 ∧ aLn A ((ss i).1 / 2) 4 = nI m := hgd.2.1 _ (by omega)
    refine ⟨sa i, rfl, ⟨_, R.x⟩, ek 3650 (by omega) (kt_take R S0 hin hla han hanF (fun j hj => (hT1 j hj).1) hnt (q7 hnt) q2 q6 (fun j hj => (hT1 j hj).2.1) (fun j hj => (hT1 j hj).2.2.2.2.1.1) q8 q9 (hgd.1 _ s2).1 hcap hgd.2.2.1 hlk (pre_gd hgd s2 hlk).2.1.1 (Nat.le_refl _) fun J3 h3 w k3 R3 ha3 S3 hw hwF hwJ F3 => ?_)⟩
    have e2 : (kf_take A n ss i fresh b d f).2.2.1 = (ss i).1 := rfl
    have e3 : (kf_take A n ss i fresh b d f).2.2.2.1 = (ss i).2.1 := rfl
    have e4 : (kf_take A n ss i fresh b d f).2.2.2.2.1 = (ss i).2.2.1 := rfl
    obtain ⟨g1, g2, g3⟩ := hg
    revert hk
    generalize (kf_take A n ss i fresh b d f).1 = A3 at R3 g1 g3 ⊢
    generalize (kf_take A n ss i fresh b d f).2.1 = f3 at ha3 ⊢
    generalize (kf_take A n ss i fresh b d f).2.2 = v3 at S3 g2 t0 t5 e2 e3 e4 ⊢
    intro hk
    have hla3 : aLa A3 = an := by rw [g3.2.2.2.2.2.2.2.2.2.2]; exact hla
    have ne : ∀ {a : Nat} {e : qc_E}, h a = some e → a ≠ w := fun z q => by
      rw [q, hw] at z
      cases z
    have han_ar : an ≠ arl := fun z => by rw [z, har] at han; cases han
    obtain ⟨xt, xt1, xt2, xt3⟩ := hat
    have han_at : an ≠ atl := fun z => by rw [z, xt1] at han; cases han
    have hsa_at : sa i ≠ atl := fun z => by rw [z, xt1] at s1; cases s1
    have hsa_ar : sa i ≠ arl := fun z => by rw [z, har] at s1; cases s1
    have hat3 : h3 atl = some (.inr xt) := F3.at hatF (by rintro (z | z | z); exact han_at z.symm; exact hsa_at z.symm; exact q4 z.symm) xt1
    have har3 : h3 arl = some (.inr []) := F3.at harF (by rintro (z | z | z); exact han_ar z.symm; exact hsa_ar z.symm; exact q3 z.symm) har
    have hatJ3 : J3 atl = none := k3.at R3.jh (by rw [xt1]; intro z; cases z) hatJ hat3
    have harJ3 : J3 arl = none := k3.at R3.jh (by rw [har]; intro z; cases z) harJ har3
    obtain ⟨ol3, sl3, u1, u2, u3, u4, u5, u6⟩ := S3
    refine ⟨_, _, R3.x, rfl, _, _, by rw [hla3]; exact ha3, rfl, _, v3.2.2.2.2 0, u1, rfl, _, v3.2.2.2.2 7, u1, rfl, kt_box R3 (by omega) fun bx J4 k4 R4 F4 hi4 => ?_⟩
    have F4' : ∀ {a : Nat} {e : qc_E}, qkF L a → h3 a = some e → (qc_up h3 bx (.inl (.inr (17, [.int (10 * v3.2.2.2.2 0 + v3.2.2.2.2 7)]))) : qc_H) a = some e := fun z q => by rw [F4 _ z (by rw [q]; intro y; cases y)]; exact q
    have hbx : (qc_up h3 bx (.inl (.inr (17, [.int (10 * v3.2.2.2.2 0 + v3.2.2.2.2 7)]))) : qc_H) bx = some _ := qc_up_s
    have h4n : ∀ a, (qc_up h3 bx (.inl (.inr (17, [.int (10 * v3.2.2.2.2 0 + v3.2.2.2.2 7)]))) : qc_H) a = none → h3 a = none := fun a z => by
      by_cases q : a = bx
      · rw [q, qc_up_s] at z
        cases z
      · rw [qc_up_n q] at z
        exact z
    generalize qc_up h3 bx (.inl (.inr (17, [.int (10 * v3.2.2.2.2 0 + v3.2.2.2.2 7)]))) = h4 at R4 F4 F4' hbx h4n ⊢
    have hat4 : qkR (isInt J4) h4 atl tk := ⟨xt, F4' hatF hat3, xt2.mono (isInt.mono (qkJ.tr k3.1 k4.1)), xt3⟩
    refine rl_add (w := 10 * v3.2.2.2.2 0 + v3.2.2.2.2 7) hat4 hbx (Or.inr (Or.inr (Or.inr (Or.inr (Or.inr (Or.inr (Or.inr rfl))))))) hi4 (by omega) fun xs hxs => ?_
    have hatJ4 : J4 atl = none := (k4.w (h := h3)).at R4.jh (by rw [hat3]; intro z; cases z) hatJ3 (F4' hatF hat3)
    have R5 := R4.other (e := .inr xs) hatF hatJ4
    have at5 : (qc_up h4 atl (.inr xs) : qc_H) atl = some (.inr xs) := qc_up_s
    have keep3 : ∀ {a : Nat} {e : qc_E}, qkF L a → a ≠ atl → h3 a = some e → (qc_up h4 atl (.inr xs) : qc_H) a = some e := fun z y q => by
      rw [qc_up_n y]
      exact F4' z q
    have keep : ∀ {a : Nat} {e : qc_E}, qkF L a → a ≠ atl → a ≠ an → a ≠ sa i → a ≠ rl i → h a = some e → (qc_up h4 atl (.inr xs) : qc_H) a = some e := fun z y y1 y2 y3 q => keep3 z y (F3.at z (by rintro (p | p | p); exact y1 p; exact y2 p; exact y3 p) q)
    have h3n : ∀ a, h3 a = none → B a = none := by
      intro a z
      by_cases q : a = rl i
      · rw [q]; exact q11
      · apply hB
        apply Classical.byContradiction
        intro hne
        by_cases hF : qkF L a
        · by_cases q2 : a = an
          · rw [q2, ha3] at z; cases z
          · by_cases q3 : a = sa i
            · rw [q3, u1] at z; cases z
            · rw [F3 a hF (by rintro (p | p | p); exact q2 p; exact q3 p; exact q p) hne] at z
              exact hne z
        · apply hF
          intro k hk' e
          subst e
          exact R3.cell k hk' z
    have h5n : ∀ a, (qc_up h4 atl (.inr xs) : qc_H) a = none → B a = none := fun a z => by
      by_cases q : a = atl
      · rw [q, qc_up_s] at z
        cases z
      · rw [qc_up_n q] at z
        exact h3n a (h4n a z)
    have hfr5 : qkFr L B (qc_up h4 atl (.inr xs)) := fun a ha hb => by
      have hq := hFr a ha hb
      cases hz : B a with
      | none => exact absurd hz hb
      | some e =>
        rw [hz] at hq
        exact keep ha (fun z => hb (by rw [z]; exact hBat)) (fun z => hb (by rw [z]; exact hBan)) (fun z => hb (by rw [z]; exact q10)) (fun z => hb (by rw [z]; exact q11)) hq
    have JJ : qkJ J J4 := qkJ.tr k3.1 k4.1
    have harJ4 : J4 arl = none := (k4.w (h := h3)).at R4.jh (by rw [har3]; intro z; cases z) harJ3 (F4' harF har3)
    obtain ⟨xw, xw1, xw2, xw3⟩ := u5
    have hwJ4 : J4 w = none := (k4.w (h := h3)).at R4.jh (by rw [xw1]; intro z; cases z) hwJ (F4' hwF xw1)
    have hw5 := keep3 hwF (ne xt1).symm xw1
    have hal5 : (qc_up h4 atl (.inr xs) : qc_H) al = some (.inl (.inl (g.2.2.2.1 7, n, .inr (.inr (.inr (.inr F)))))) := by
      refine keep halF ?_ ?_ ?_ ?_ e1
      · intro z; rw [z, xt1] at e1; cases e1
      · intro z; rw [z, han] at e1; cases e1
      · intro z; rw [z, s1] at e1; cases e1
      · intro z; rw [z, q7 hnt] at e1; cases e1
    have other : ∀ k, k < n → k ≠ i → (∃ e, h (sa k) = some e ∧ (qc_up h4 atl (.inr xs) : qc_H) (sa k) = some e) ∧ (∃ ys, h (rl k) = some (.inr ys) ∧ (qc_up h4 atl (.inr xs) : qc_H) (rl k) = some (.inr ys)) ∧ J4 (rl k) = none := by
      intro k hk' hki
      obtain ⟨ol', sl', m1, m2, m3, m4, ⟨ys, m5, m6, m7⟩, m8⟩ := hS k hk'
      obtain ⟨p1, p2, p3, p4, p5, p6, p7, p8, p9, p10, p11⟩ := hT1 k hk'
      have n1 : rl k ≠ an := fun z => by rw [z, han] at m5; cases m5
      have n2 : rl k ≠ sa i := fun z => by rw [z, s1] at m5; cases m5
      have n3 : rl k ≠ rl i := fun z => hki (hinj k i hk' hin z)
      refine ⟨⟨_, m1, keep m8 ?_ ?_ (fun z => hki (hsinj k i hk' hin z)) ?_ m1⟩, ⟨ys, m5, keep p2 p4 n1 n2 n3 m5⟩, ?_⟩
      · intro z; rw [z, xt1] at m1; cases m1
      · intro z; rw [z, han] at m1; cases m1
      · intro z; rw [z, q7 hnt] at m1; cases m1
      · have y3 : h3 (rl k) = some (.inr ys) := F3.at p2 (by rintro (z | z | z); exact n1 z; exact n2 z; exact n3 z) m5
        exact (k4.w (h := h3)).at R4.jh (by rw [y3]; intro z; cases z) (k3.at R3.jh (by rw [m5]; intro z; cases z) p6 y3) (F4' p2 y3)
    rw [nI_1]
    refine ih (j + 1) A3 (qkU ss i v3) f3 (tk ++ [10 * v3.2.2.2.2 0 + v3.2.2.2.2 7]) (qkU rl i w) J4 _ _ (by omega) (by rw [cnt_upd hnt t5 hin, hcnt]) (by rw [List.length_append, htl]; rfl) ⟨R5, ⟨hn3, ⟨F, hal5, eF⟩, fun k hk' => ?_, hsinj⟩, hla3, keep3 hanF han_at ha3, hanF, ⟨keep3 harF hrt har3, harF, harJ4⟩, ⟨⟨xs, at5, hxs, by rw [List.length_append, htl]; show j + 1 ≤ 20000; omega⟩, hatF, hatJ4⟩, hrt, g1, fun k hk' => ?_, fun k l hk' hl' e => ?_, ⟨hBan, hBar, hBat⟩, hfr5, h5n, (hJ0.tr k3 hB).tr (k4.w (h := h3)) h3n, halF⟩ (by rw [g3.2.2.2.2.2.2.1]; exact hlk) (by omega) fun J' h' c' rl' T' t' hc' => hk J' h' c' rl' T' (g3.tr t') hc'
    · by_cases e : k = i
      · subst e
        rw [qkU_s, qkU_s]
        exact ⟨ol3, sl3, keep3 s6 hsa_at u1, u2, u3.mono (fun e => k4.1 _ e) (isCond.mono k4.1), u4.mono (fun e => k4.1 _ e) (isCond.mono k4.1), ⟨xw, hw5, xw2.mono (isRow.mono k4.1), xw3⟩, u6⟩
      · rw [qkU_n e, qkU_n e]
        obtain ⟨⟨e', o1, o2⟩, ⟨ys, o3, o4⟩, o5⟩ := other k hk' e
        exact (hS k hk').mono JJ (by rw [o1, o2]) (by rw [o3, o4])
    · by_cases e : k = i
      · subst e
        rw [qkU_s, qkU_s]
        refine ⟨t0.trans q1, hwF, (ne har).symm, (ne xt1).symm, g2, hwJ4, fun z => ?_, by rw [e3]; exact q8, by rw [e4]; exact q9, q10, hB w hw⟩
        unfold kf_taken at z
        rw [qkU_s, decide_eq_true t5] at z
        cases z
      · rw [qkU_n e, qkU_n e, taken_n e]
        obtain ⟨p1, p2, p3, p4, p5, p6, p7, p8, p9, p10, p11⟩ := hT1 k hk'
        obtain ⟨-, ⟨ys, o3, o4⟩, o5⟩ := other k hk' e
        exact ⟨p1, p2, p3, p4, p5, o5, fun z => by rw [o4, ← o3]; exact p7 z, p8, p9, p10, p11⟩
    · have rn : ∀ k, k < n → k ≠ i → rl k ≠ w := fun k hk' hki z => by
        obtain ⟨-, ⟨ys, o3, o4⟩, o5⟩ := other k hk' hki
        exact ne o3 z
      by_cases e5 : k = i
      · by_cases e6 : l = i
        · rw [e5, e6]
        · subst e5
          rw [qkU_s, qkU_n e6] at e
          exact absurd e.symm (rn l hl' e6)
      · by_cases e6 : l = i
        · subst e6
          rw [qkU_s, qkU_n e5] at e
          exact absurd e (rn k hk' e5)
        · rw [qkU_n e5, qkU_n e6] at e
          exact hinj k l hk' hl' e
end
