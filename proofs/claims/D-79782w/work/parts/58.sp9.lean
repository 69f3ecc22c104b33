/-! SP 9: what a seat's requests bring -/
set_option maxRecDepth 100000
/-- time passes: what doesn't change by it -/
def qkTm (A A' : qkA) : Prop := (∀ k, k ≠ 15 → aQ A' k = aQ A k) ∧ (∀ l k, k ≠ 6 → k ≠ 8 → k ≠ 9 → aLn A' l k = aLn A l k) ∧ aSr A' = aSr A ∧ aFb A' = aFb A ∧ aRow A' = aRow A ∧ aWr A' = aWr A ∧ aSeat A' = aSeat A ∧ aLink A' = aLink A ∧ aCond A' = aCond A ∧ aOut A' = aOut A ∧ aBun A' = aBun A ∧ aLa A' = aLa A ∧ (aCache A').Sublist (aCache A) ∧ (aMsg A').Sublist (aMsg A)
theorem qkTm.rf {A : qkA} : qkTm A A := ⟨fun _ _ => rfl, fun _ _ _ _ _ => rfl, rfl, rfl, rfl, rfl, rfl, rfl, rfl, rfl, rfl, rfl, List.Sublist.refl _, List.Sublist.refl _⟩
theorem qkTm.tr {A B C : qkA} (p : qkTm A B) (q : qkTm B C) : qkTm A C := by
  obtain ⟨p1, p2, p3, p4, p5, p6, p7, p8, p9, p10, p11, p12, p13, p14⟩ := p
  obtain ⟨q1, q2, q3, q4, q5, q6, q7, q8, q9, q10, q11, q12, q13, q14⟩ := q
  exact ⟨fun k h => (q1 k h).trans (p1 k h), fun l k a b c => (q2 l k a b c).trans (p2 l k a b c), q3.trans p3, q4.trans p4, q5.trans p5, q6.trans p6, q7.trans p7, q8.trans p8, q9.trans p9, q10.trans p10, q11.trans p11, q12.trans p12, q13.trans p13, q14.trans p14⟩
theorem qkTm.goTo {A : qkA} {t : Int32} : qkTm A (kf_goTo A t) := ⟨fun k h => upd_n h, fun _ _ _ _ _ => rfl, rfl, rfl, rfl, rfl, rfl, rfl, rfl, rfl, rfl, rfl, List.filter_sublist.trans List.filter_sublist, List.filter_sublist⟩
theorem qkTm.ln {A : qkA} {l k : Nat} {v : Int32} (hk : k = 6 ∨ k = 8 ∨ k = 9) : qkTm A (kf_ln A l k v) := ⟨fun k h => rfl, fun j i a b c => by
  show qkU (aLn A) l (upd (aLn A l) k v) j i = aLn A j i
  by_cases e : j = l
  · subst e
    rw [qkU_s, upd_n (by omega)]
  · rw [qkU_n e], rfl, rfl, rfl, rfl, rfl, rfl, rfl, rfl, rfl, rfl, List.Sublist.refl _, List.Sublist.refl _⟩
theorem qkTm.wait {A : qkA} {l : Nat} : qkTm A (kf_wait A l) := by
  unfold kf_wait
  split
  · exact qkTm.goTo
  · exact qkTm.rf
theorem qkTm.attempt {A : qkA} {l : Nat} {b d : Int32} {f : Nat → Int32} : qkTm A (kf_attempt A l b d f).2.1 := by
  have h : qkTm A (kf_run (kf_wait A l) l) := ((qkTm.wait.tr (qkTm.ln (Or.inr (Or.inr rfl)))).tr (qkTm.ln (Or.inr (Or.inl rfl)))).tr qkTm.goTo
  unfold kf_attempt
  split
  · exact qkTm.wait
  · split
    · exact h
    · exact h.tr (qkTm.ln (Or.inl rfl))
theorem qkTm.req {l : Nat} {b d : Int32} : ∀ (n : Nat) {A : qkA} {f : Nat → Int32}, qkTm A (kf_req l b d n A f).2.1
  | 0, _, _ => qkTm.rf
  | n + 1, A, f => by
    rw [kf_req]
    split
    · exact qkTm.attempt.tr (qkTm.req n)
    · exact qkTm.attempt
/-- a row is one of those asked for -/
def kf_is (col : Int32) (ks : List Int32) (r : qkRow) : Bool := decide (col = -1) || ks.any (fun k => decide (r.2 col.toNatClampNeg = k))
def kf_sel (A : qkA) (src : Nat) (sent : List qkC) (col : Int32) (ks : List Int32) : List qkRow := (aRow A src).filter (fun r => kf_is col ks r && kf_all sent r)
def kf_capn (A : qkA) (src : Nat) : Nat := (aLn A (src / 2) 4).toNatClampNeg
/-- 0: answered; the state, the answer's and the seat's scalars, the seat's rows -/
def kf_ship (A : qkA) (src : Nat) (sent : List qkC) (rows : List qkRow) (sv f : Nat → Int32) (b d col : Int32) (ks : List Int32) : Nat × qkA × (Nat → Int32) × (Nat → Int32) × List qkRow :=
  ((kf_req (src / 2) b d 3 A f).1, (kf_req (src / 2) b d 3 A f).2.1,
   if (kf_req (src / 2) b d 3 A f).1 = 0 then
    (upd (upd (kf_req (src / 2) b d 3 A f).2.2 6 ((kf_req (src / 2) b d 3 A f).2.2 6 + nI ((kf_sel A src sent col ks).take (kf_capn A src)).length)) 4 ((kf_req (src / 2) b d 3 A f).2.2 4 + nI ((kf_sel A src sent col ks).take (kf_capn A src)).length * kf_freight (src / 2)),
     upd (upd (upd (upd sv 9 (sv 9 + ((kf_req (src / 2) b d 3 A f).2.2 4 - f 4))) 6 (if kf_capn A src < (kf_sel A src sent col ks).length then 1 else sv 6)) 9 (sv 9 + ((kf_req (src / 2) b d 3 A f).2.2 4 - f 4) + nI ((kf_sel A src sent col ks).take (kf_capn A src)).length * kf_freight (src / 2))) 8 (aQ A 14),
     rows ++ (kf_sel A src sent col ks).take (kf_capn A src))
   else ((kf_req (src / 2) b d 3 A f).2.2, upd sv 9 (sv 9 + ((kf_req (src / 2) b d 3 A f).2.2 4 - f 4)), rows))
section
variable {g : qh_G} {L : Nat → Nat} {J h : qc_H} {A : qkA} {c : Nat}
theorem kt_is {p : Nat} {r : qkRow} {col : Int32} {ks : List Int32} {i j : Nat} {kO : Option Nat} {K : Int32 → Prop} (hJ : qkJ J h) (hr : isRow g J p r) (hcol : (∃ q, q < 4 ∧ col = nI q) ∨ (col = -1 ∧ i = j)) (hks : i < j → ∃ kl, kO = some kl ∧ qkR (isInt J) h kl ks) (hij : i ≤ j) (hj : j ≤ ks.length) (hjs : j ≤ 20000) (hk : K (b2 (kf_is col ((ks.drop i).take (j - i)) r))) :
    ∀ J46 : Int32 → Prop, (∀ (x47 : Int32), (∀ X48 : Int32 → Int32 → Prop, (∀ (x49 : Int32) (x50 : Int32), ((nI j ≤ x50 → K x49) ∧ (¬ nI j ≤ x50 → eR h p 8 1 (fun v63 => eA g.2.2.2.1 h v63 col (fun v64 => ∃ y65 : Nat, kO = some y65 ∧ eGt h y65 x50 (fun p66 => eC h p66 17 (eB h p66 (fun v67 => ∀ J69 : Int32 → Prop, (∀ (x70 : Int32), (X48 (x49 ||| x70) (x50 + 1)) → J69 x70) → (¬ v64 = v67 → J69 0) ∧ (v64 = v67 → J69 1)))))))) → X48 x49 x50) → X48 x47 (nI i)) → J46 x47) → (¬ col = ((-1)) → J46 0) ∧ (col = ((-1)) → J46 1) := by
  intro J46 hJ46
  obtain ⟨ca, r1, r2⟩ := hr
  have main : J46 (b2 (decide (col = -1))) := by
    refine hJ46 _ fun X hX => ?_
    have key : ∀ n k, k + n = j → i ≤ k → X (b2 (kf_is col ((ks.drop i).take (k - i)) r)) (nI k) := by
      intro n
      induction n with
      | zero =>
        intro k hkn hik
        have e : k = j := by omega
        subst e
        exact hX _ _ ⟨fun _ => hk, fun z => absurd (nI_le (Nat.le_refl _) (by omega)) z⟩
      | succ n ih =>
        intro k hkn hik
        have hkj : k < j := by omega
        obtain ⟨kl, e1, hl⟩ := hks (by omega)
        rcases hcol with ⟨q, hq, hcq⟩ | ⟨_, z⟩
        · have hk' : k < ks.length := by omega
          refine hX _ _ ⟨fun z => absurd z (nI_ge hkj (by omega)), fun _ => ⟨_, _, hJ _ _ r1, rfl, 4, r.2, hJ _ _ r2, by rw [hcq]; exact vp_in_nI hq (by decide), kl, e1, rl_get hl rfl (List.getElem?_eq_getElem hk') fun y hy => ?_⟩⟩
          have y1 : J y = some (.inl (.inr (17, [.int ks[k]]))) := hy
          refine ⟨⟨_, hJ _ _ y1⟩, _, hJ _ _ y1, fun J69 hJ69 => ?_⟩
          have fin : J69 (b2 (decide (r.2 col.toNatClampNeg = ks[k]))) := by
            refine hJ69 _ ?_
            rw [b2_or, nI_1]
            have e2 : (kf_is col ((ks.drop i).take (k - i)) r || decide (r.2 col.toNatClampNeg = ks[k])) = kf_is col ((ks.drop i).take (k + 1 - i)) r := by
              have h5 : k - i < (ks.drop i).length := by rw [List.length_drop]; omega
              have h6 : (ks.drop i)[k - i] = ks[k] := by
                rw [List.getElem_drop]
                congr 1
                omega
              rw [show k + 1 - i = (k - i) + 1 by omega]
              unfold kf_is
              rw [any_snoc h5, h6, Bool.or_assoc]
            rw [e2]
            exact ih (k + 1) (by omega) (by omega)
          refine ⟨fun z => by simpa [z, b2] using fin, fun z => ?_⟩
          rw [b2_t (decide_eq_true z)] at fin
          exact fin
        · omega
    have h0 := key (j - i) i (by omega) (Nat.le_refl _)
    rw [Nat.sub_self, List.take_zero] at h0
    have e : kf_is col [] r = decide (col = -1) := by simp [kf_is]
    rw [e] at h0
    exact h0
  refine ⟨fun z => by simpa [z, b2] using main, fun z => by simpa [z, b2] using main⟩
theorem kt_ship {se src ol sl rl an arl atl i j q0 : Nat} {b d col : Int32} {sent : List qkC} {rows : List qkRow} {sv f : Nat → Int32} {ks : List Int32} {kO : Option Nat} {K : qc_H → Prop} {KX : String → qc_H → Prop} (R : qkRep g L J h A) (hla : aLa A = an) (han : h an = some (qkAn arl atl f)) (haF : qkF L an) (haJ : J an = none) (hsrc : src < 6)
    (hse : h se = some (qkSt L src ol sl rl sv)) (hsF : qkF L se) (hsJ : J se = none) (hsl : qkR (isCond J) J sl sent) (hok : ∀ cd ∈ sent, qkOk cd) (hrl : qkR (isRow g J) h rl rows) (hrF : qkF L rl) (hrJ : J rl = none) (hrn : rows.length ≤ 40) (hq0 : rows.length + 12 + (rows.length + 12) / 2 + 11 ≤ q0) (hnr : (aRow A src).length ≤ 12) (hcap : ∃ m, m ≤ 12 ∧ aLn A (src / 2) 4 = nI m)
    (hcol : (∃ q, q < 4 ∧ col = nI q) ∨ (col = -1 ∧ i = j)) (hks : i < j → ∃ kl, kO = some kl ∧ qkR (isInt J) J kl ks) (hij : i ≤ j) (hj : j ≤ ks.length) (hjs : j ≤ 20000) (hc : 28 + 12 * q0 ≤ c)
    (hk : ∀ h', qkRep g L J h' (kf_ship A src sent rows sv f b d col ((ks.drop i).take (j - i))).2.1 → h' an = some (qkAn arl atl (kf_ship A src sent rows sv f b d col ((ks.drop i).take (j - i))).2.2.1) → h' se = some (qkSt L src ol sl rl (kf_ship A src sent rows sv f b d col ((ks.drop i).take (j - i))).2.2.2.1) → qkR (isRow g J) h' rl (kf_ship A src sent rows sv f b d col ((ks.drop i).take (j - i))).2.2.2.2 → qkFx L (fun a => a = an ∨ a = se ∨ a = rl) h h' → ((kf_ship A src sent rows sv f b d col ((ks.drop i).take (j - i))).1 = 0 → K h') ∧ (¬ (kf_ship A src sent rows sv f b d col ((ks.drop i).take (j - i))).1 = 0 → KX "QueryHarbor$NoAnswer" h')) :
    T_X1_ship g (L 0) se col kO (nI i) (nI j) b d h c K KX := by
  unfold T_X1_ship
  have hsr : src / 2 < 3 := by omega
  have hane : an ≠ se := by
    intro z
    rw [z, hse] at han
    cases han
  obtain ⟨xr, hxr, hxr2, hxr3⟩ := hrl
  have hanr : an ≠ rl := by
    intro z
    rw [z, hxr] at han
    cases han
  have hser : se ≠ rl := by
    intro z
    rw [z, hxr] at hse
    cases hse
  refine ⟨_, _, hse, rfl, _, _, R.src hsrc, rfl, _, an, R.x, by rw [← hla]; rfl, _, f 4, han, rfl, _, an, R.x, by rw [← hla]; rfl, ⟨_, R.x⟩, ek 28 (by omega) (kt_request R hsr han haF haJ (Nat.le_refl 28) fun h1 R1 ha1 F1 => ?_)⟩
  have hs1 := F1.at hsF (fun z => hane z.symm) hse
  have hx1 := F1.at hrF (fun z => hanr z.symm) hxr
  have Tm : qkTm A (kf_req (src / 2) b d 3 A f).2.1 := qkTm.req 3
  obtain ⟨T1, T2, T3, T4, T5, T6, T7, T8, T9, T10, T11, T12, -, -⟩ := Tm
  unfold kf_ship at hk
  generalize hrq : kf_req (src / 2) b d 3 A f = rq at R1 ha1 hk T1 T2 T3 T4 T5 T6 T7 T8 T9 T10 T11 T12 ⊢
  obtain ⟨o, A1, f1⟩ := rq
  dsimp only at R1 ha1 hk T1 T2 T3 T4 T5 T6 T7 T8 T9 T10 T11 T12 ⊢
  have hla1 : aLa A1 = an := T12.trans hla
  generalize hks' : (ks.drop i).take (j - i) = ks1 at hk
  have F1' : qkFx L (fun a => a = an ∨ a = se ∨ a = rl) h h1 := F1.le (fun a z _ => Or.inl z)
  -- what was spent is noted
  have sp : ∀ (KK : qc_H → Prop), (∀ h2, qkRep g L J h2 A1 → h2 an = some (qkAn arl atl f1) → h2 se = some (qkSt L src ol sl rl (upd sv 9 (sv 9 + (f1 4 - f 4)))) → h2 rl = some (.inr xr) → qkFx L (fun a => a = an ∨ a = se ∨ a = rl) h h2 → KK h2) → eI h1 se 13 9 (fun v15 => eR h1 (L 0) 0 12 (fun v16 => eI h1 v16 5 4 (fun v17 => eP h1 se 13 9 (.int (v15 + (v17 - f 4))) (fun h18 => KK h18)))) := by
    intro KK hKK
    refine ⟨_, sv 9, hs1, rfl, _, an, R1.x, by rw [← hla1]; rfl, _, f1 4, ha1, rfl, _, hs1, by simp, ?_⟩
    refine hKK _ (R1.other hsF hsJ) (by rw [qc_up_n hane]; exact ha1) qc_up_s (by rw [qc_up_n hser.symm]; exact hx1) (F1'.tr (qkFx.up (Or.inr (Or.inl rfl))))
  refine ⟨fun ho => ?_, fun ho => ⟨rfl, sp _ fun h2 R2 ha2 hs2 hx2 F2 => ?_⟩⟩
  rotate_left
  · rw [if_neg ho] at hk
    exact (hk h2 R2 ha2 hs2 ⟨xr, hx2, hxr2, hxr3⟩ F2).2 ho
  rw [if_pos ho] at hk
  refine sp _ fun h2 R2 ha2 hs2 hx2 F2 => ?_
  clear sp
  obtain ⟨m, hm, hcm⟩ := hcap
  have hcapn : kf_capn A src = m := by unfold kf_capn; rw [hcm]; exact nI_clamp (by omega)
  rw [hcapn] at hk
  have hrows1 : aRow A1 src = aRow A src := by rw [T5]
  intro X hX
  -- the rows, one by one
  have key : ∀ n k h3 c3, k + n = (aRow A src).length → n * q0 ≤ c3 → qkRep g L J h3 A1 → h3 an = some (qkAn arl atl f1) →
      h3 se = some (qkSt L src ol sl rl (upd (upd sv 9 (sv 9 + (f1 4 - f 4))) 6 (if m < (((aRow A src).take k).filter (fun r => kf_is col ks1 r && kf_all sent r)).length then 1 else sv 6))) →
      qkR (isRow g J) h3 rl (rows ++ (((aRow A src).take k).filter (fun r => kf_is col ks1 r && kf_all sent r)).take m) → qkFx L (fun a => a = an ∨ a = se ∨ a = rl) h h3 →
      X (nI ((((aRow A src).take k).filter (fun r => kf_is col ks1 r && kf_all sent r)).take m).length) (nI k) h3 c3 := by
    intro n
    induction n with
    | zero =>
      intro k h3 c3 hkn hc3 R3 ha3 hs3 hr3 F3
      refine hX _ _ _ _ ⟨_, _, hs3, rfl, _, _, R3.src hsrc, rfl, rl_size (R3.rows hsrc) ⟨fun _ => ?_, fun z => absurd (nI_le (by rw [hrows1]; omega) (by omega)) z⟩⟩
      rw [show (aRow A src).take k = aRow A src from List.take_of_length_le (by omega)] at hs3 hr3 ⊢
      have hsel : (aRow A src).filter (fun r => kf_is col ks1 r && kf_all sent r) = kf_sel A src sent col ks1 := rfl
      rw [hsel] at hs3 hr3 ⊢
      generalize hN : ((kf_sel A src sent col ks1).take m).length = N at hk ⊢
      have han3 : an ≠ se := hane
      refine ⟨_, an, R3.x, by rw [← hla1]; rfl, _, f1 6, ha3, rfl, _, ha3, by simp, ?_⟩
      have R4 := R3.other (e := qkAn arl atl (upd f1 6 (f1 6 + nI N))) haF haJ
      rw [show qc_up h3 an (Sum.inl (Sum.inr (5, [Value.ref arl, Value.ref atl, Value.int (f1 2), Value.int (f1 3), Value.int (f1 4), Value.int (f1 5), Value.int (f1 6)].set 6 (Value.int (f1 6 + nI N))))) = qc_up h3 an (qkAn arl atl (upd f1 6 (f1 6 + nI N))) from rfl]
      have ha4 : (qc_up h3 an (qkAn arl atl (upd f1 6 (f1 6 + nI N)))) an = some (qkAn arl atl (upd f1 6 (f1 6 + nI N))) := qc_up_s
      have hs4 : (qc_up h3 an (qkAn arl atl (upd f1 6 (f1 6 + nI N)))) se = _ := (qc_up_n (fun z => hane z.symm)).trans hs3
      have hr4 : (qc_up h3 an (qkAn arl atl (upd f1 6 (f1 6 + nI N)))) rl = _ := qc_up_n (fun z => hanr z.symm)
      have F4 : qkFx L (fun a => a = an ∨ a = se ∨ a = rl) h3 (qc_up h3 an (qkAn arl atl (upd f1 6 (f1 6 + nI N)))) := qkFx.up (Or.inl rfl)
      generalize qc_up h3 an (qkAn arl atl (upd f1 6 (f1 6 + nI N))) = h4 at R4 ha4 hs4 hr4 F4 ⊢
      refine ⟨_, an, R4.x, by rw [← hla1]; rfl, _, f1 4, ha4, rfl, _, _, R4.line hsr, rfl, kt_freight R4 hsr ⟨_, ha4, by simp, ?_⟩⟩
      have R5 := R4.other (e := qkAn arl atl (upd (upd f1 6 (f1 6 + nI N)) 4 (f1 4 + nI N * kf_freight (src / 2)))) haF haJ
      rw [show qc_up h4 an (Sum.inl (Sum.inr (5, [Value.ref arl, Value.ref atl, Value.int (upd f1 6 (f1 6 + nI N) 2), Value.int (upd f1 6 (f1 6 + nI N) 3), Value.int (upd f1 6 (f1 6 + nI N) 4), Value.int (upd f1 6 (f1 6 + nI N) 5), Value.int (upd f1 6 (f1 6 + nI N) 6)].set 4 (Value.int (f1 4 + nI N * kf_freight (src / 2)))))) = qc_up h4 an (qkAn arl atl (upd (upd f1 6 (f1 6 + nI N)) 4 (f1 4 + nI N * kf_freight (src / 2)))) from rfl]
      have ha5 : (qc_up h4 an (qkAn arl atl (upd (upd f1 6 (f1 6 + nI N)) 4 (f1 4 + nI N * kf_freight (src / 2))))) an = some (qkAn arl atl (upd (upd f1 6 (f1 6 + nI N)) 4 (f1 4 + nI N * kf_freight (src / 2)))) := qc_up_s
      have hs5 : (qc_up h4 an (qkAn arl atl (upd (upd f1 6 (f1 6 + nI N)) 4 (f1 4 + nI N * kf_freight (src / 2))))) se = _ := (qc_up_n (fun z => hane z.symm)).trans hs4
      have hr5 : (qc_up h4 an (qkAn arl atl (upd (upd f1 6 (f1 6 + nI N)) 4 (f1 4 + nI N * kf_freight (src / 2))))) rl = _ := (qc_up_n (fun z => hanr z.symm)).trans hr4
      have F5 : qkFx L (fun a => a = an ∨ a = se ∨ a = rl) h4 (qc_up h4 an (qkAn arl atl (upd (upd f1 6 (f1 6 + nI N)) 4 (f1 4 + nI N * kf_freight (src / 2))))) := qkFx.up (Or.inl rfl)
      generalize qc_up h4 an (qkAn arl atl (upd (upd f1 6 (f1 6 + nI N)) 4 (f1 4 + nI N * kf_freight (src / 2)))) = h5 at R5 ha5 hs5 hr5 F5 ⊢
      refine ⟨_, sv 9 + (f1 4 - f 4), hs5, rfl, _, _, R5.line hsr, rfl, kt_freight R5 hsr ⟨_, hs5, by simp, ?_⟩⟩
      refine ⟨qkO L (aQ A1) (aLa A1), aQ A1 14, ?_, rfl, _, qc_up_s, by simp, ?_⟩
      · rw [qc_up_n (fun z => hsF 0 (by omega) z.symm)]
        exact R5.x
      simp only [qc_up_up]
      have hm14 : aQ A1 14 = aQ A 14 := T1 14 (by decide)
      rw [hm14]
      have R6 := R5.other (e := qkSt L src ol sl rl (upd (upd (upd (upd sv 9 (sv 9 + (f1 4 - f 4))) 6 (if m < (kf_sel A src sent col ks1).length then 1 else sv 6)) 9 (sv 9 + (f1 4 - f 4) + nI N * kf_freight (src / 2))) 8 (aQ A 14))) hsF hsJ
      refine (hk _ R6 (by rw [qc_up_n hane]; exact ha5) qc_up_s ?_ (((F3.tr F4).tr F5).tr (qkFx.up (Or.inr (Or.inl rfl))))).1 ho
      refine hr3.mono (fun e z => ?_) (fun _ _ z => z)
      rw [qc_up_n hser.symm, hr5]
      exact z
    | succ n ih =>
      intro k h3 c3 hkn hc3 R3 ha3 hs3 hr3 F3
      rw [Nat.succ_mul] at hc3
      have hk' : k < (aRow A src).length := by omega
      have hk1 : k < (aRow A1 src).length := by rw [hrows1]; exact hk'
      refine hX _ _ _ _ ⟨_, _, hs3, rfl, _, _, R3.src hsrc, rfl, rl_size (R3.rows hsrc) ⟨fun z => absurd z (nI_ge (by rw [hrows1]; omega) (by rw [hrows1]; omega)), fun _ => ?_⟩⟩
      refine ⟨_, _, hs3, rfl, _, _, R3.src hsrc, rfl, rl_get (R3.rows hsrc) rfl (List.getElem?_eq_getElem hk1) fun y hy => ?_⟩
      have hge : (aRow A1 src)[k] = (aRow A src)[k] := by simp only [hrows1]
      rw [hge] at hy
      obtain ⟨ca, y1, y2⟩ := hy
      refine ⟨⟨_, R3.jh _ _ y1⟩, ?_⟩
      have hfs : ((aRow A src).take (k + 1)).filter (fun r => kf_is col ks1 r && kf_all sent r) = ((aRow A src).take k).filter (fun r => kf_is col ks1 r && kf_all sent r) ++ (if (kf_is col ks1 (aRow A src)[k] && kf_all sent (aRow A src)[k]) = true then [(aRow A src)[k]] else []) := by
        rw [List.take_succ_eq_append_getElem hk', List.filter_append]
        congr 1
        by_cases e : (kf_is col ks1 (aRow A src)[k] && kf_all sent (aRow A src)[k]) = true
        · rw [if_pos e, List.filter_cons_of_pos (by simpa using e)]
          rfl
        · rw [if_neg e, List.filter_cons_of_neg (by simpa using e)]
          rfl
      generalize hS : ((aRow A src).take k).filter (fun r => kf_is col ks1 r && kf_all sent r) = S at hs3 hr3 hfs ⊢
      have hSl : S.length ≤ 12 := by
        rw [← hS]
        have := List.length_filter_le (fun r => kf_is col ks1 r && kf_all sent r) ((aRow A src).take k)
        rw [List.length_take] at this
        omega
      -- the row isn't taken
      have skip : (kf_is col ks1 (aRow A src)[k] && kf_all sent (aRow A src)[k]) = false → X (nI (S.take m).length) (nI k + 1) h3 c3 := by
        intro e
        rw [if_neg (by rw [e]; decide), List.append_nil] at hfs
        have := ih (k + 1) h3 c3 (by omega) (by omega) R3 ha3 (by rw [hfs]; exact hs3) (by rw [hfs]; exact hr3) F3
        rw [hfs] at this
        rw [nI_1]
        exact this
      refine kt_is (K := fun x49 => (x49 = 0 → X (nI (S.take m).length) (nI k + 1) h3 c3) ∧ (¬ x49 = 0 → _)) R3.jh ⟨ca, y1, y2⟩ hcol (fun z => ?_) hij hj hjs ⟨fun z => skip (by rw [← hks', b2_eq0.mp z]; rfl), fun z => ⟨_, _, hs3, rfl, kt_holdAll R3.jh (hsl.mono (fun e q => R3.jh _ _ q) (fun _ _ q => q)) ⟨ca, y1, y2⟩ hok ⟨fun z1 => skip (by rw [b2_eq0.mp z1, Bool.and_false]), fun z1 => ?_⟩⟩⟩
      · obtain ⟨kl, e1, e2⟩ := hks z
        exact ⟨kl, e1, e2.mono (fun e q => R3.jh _ _ q) (fun _ _ q => q)⟩
      rw [hks'] at z
      have e : (kf_is col ks1 (aRow A src)[k] && kf_all sent (aRow A src)[k]) = true := by rw [b2_n0.mp z, b2_n0.mp z1]; rfl
      rw [if_pos e] at hfs
      have hc4 : aLn A1 (src / 2) 4 = nI m := (T2 _ 4 (by decide) (by decide) (by decide)).trans hcm
      refine ⟨_, nI m, R3.line hsr, by rw [← hc4]; rfl, fun z2 => ?_, fun z2 => ?_⟩
      · have hlt : S.length < m := by
          rw [List.length_take] at z2
          have : ¬ min m S.length = m := fun q => z2 (by rw [q])
          omega
        have et : (S ++ [(aRow A src)[k]]).take m = S ++ [(aRow A src)[k]] := List.take_of_length_le (by rw [List.length_append]; show S.length + 1 ≤ m; omega)
        have et0 : S.take m = S := List.take_of_length_le (by omega)
        rw [et0] at hr3 ⊢
        refine ⟨_, _, hs3, rfl, rl_add (w := (aRow A src)[k]) hr3 (R3.jh _ _ y1) (Or.inl rfl) ⟨ca, y1, y2⟩ (by rw [List.length_append]; omega) fun xs hxs => ?_⟩
        have R4 := R3.other (e := .inr xs) hrF hrJ
        have := ih (k + 1) (qc_up h3 rl (.inr xs)) (c3 - ((rows ++ S).length + (rows ++ S).length / 2 + 11)) (by omega) (by rw [List.length_append]; omega) R4 (by rw [qc_up_n hanr]; exact ha3) (by
          rw [qc_up_n hser, hfs]
          rw [if_neg (by omega)] at hs3
          rw [if_neg (by rw [List.length_append]; show ¬ m < S.length + 1; omega)]
          exact hs3) (by
          rw [hfs, et, ← List.append_assoc]
          exact ⟨xs, qc_up_s, hxs, by rw [List.length_append, List.length_append]; show _ + _ + 1 ≤ _; omega⟩) (F3.tr (qkFx.up (Or.inr (Or.inr rfl))))
        rw [hfs, et, List.length_append] at this
        rw [nI_1, nI_1]
        exact this
      · have hle : m ≤ S.length := by
          rw [List.length_take] at z2
          have : min m S.length = m := (nI_eq (by omega) (by omega)).mp z2
          omega
        have et : (S ++ [(aRow A src)[k]]).take m = S.take m := List.take_append_of_le_length hle
        refine ⟨_, hs3, by simp, ?_⟩
        have R4 := R3.other (e := qkSt L src ol sl rl (upd (upd sv 9 (sv 9 + (f1 4 - f 4))) 6 1)) hsF hsJ
        have := ih (k + 1) (qc_up h3 se (qkSt L src ol sl rl (upd (upd sv 9 (sv 9 + (f1 4 - f 4))) 6 1))) c3 (by omega) (by omega) R4 (by rw [qc_up_n hane]; exact ha3) (by
          rw [qc_up_s, hfs, if_pos (by rw [List.length_append]; show m < S.length + 1; omega)]) (by
          rw [hfs, et]
          exact hr3.mono (fun e q => by rw [qc_up_n hser.symm]; exact q) (fun _ _ q => q)) (F3.tr (qkFx.up (Or.inr (Or.inl rfl))))
        rw [hfs, et] at this
        rw [nI_1]
        exact this
  have hm12 : (aRow A src).length * q0 ≤ 12 * q0 := Nat.mul_le_mul_right q0 hnr
  have h0 := key (aRow A src).length 0 h2 (c - 28) (by omega) (by omega) R2 ha2 (by
    rw [List.take_zero, List.filter_nil, if_neg (by simp)]
    have : upd (upd sv 9 (sv 9 + (f1 4 - f 4))) 6 (sv 6) = upd sv 9 (sv 9 + (f1 4 - f 4)) := by
      funext q
      by_cases e : q = 6
      · subst e
        rw [upd_s, upd_n (by decide)]
      · rw [upd_n e]
    rw [this]
    exact hs2) (by
    rw [List.take_zero, List.filter_nil, List.take_nil, List.append_nil]
    exact ⟨xr, hx2, hxr2, hxr3⟩) F2
  rw [List.take_zero, List.filter_nil, List.take_nil] at h0
  exact h0
end
