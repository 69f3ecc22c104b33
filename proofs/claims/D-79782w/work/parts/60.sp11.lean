/-! SP 11: scans; links, seats' order, entries -/
set_option maxRecDepth 100000
/-- a scan that is whole goes to the cache -/
def kf_enter (A : qkA) (src : Nat) (sent : List qkC) (rows : List qkRow) : qkA :=
  sSr (sCache A ((if (aCache A).length = 6 then (aCache A).eraseIdx 0 else aCache A) ++ [(src, sent, rows, aQ A 15, aQ A 14)])) (qkU (aSr A) src (upd (aSr A src) 5 (if sent.length = 0 then nI rows.length else aSr A src 5)))
def kf_scan (A : qkA) (src : Nat) (sent : List qkC) (sv f : Nat → Int32) (b d : Int32) : qkA × (Nat → Int32) × (Nat → Int32) × List qkRow :=
  if (kf_ship A src sent [] (upd sv 6 0) f b d (-1) []).1 = 0 then
    (if (kf_ship A src sent [] (upd sv 6 0) f b d (-1) []).2.2.2.1 6 = 0 then
      (kf_enter (kf_ship A src sent [] (upd sv 6 0) f b d (-1) []).2.1 src sent (kf_ship A src sent [] (upd sv 6 0) f b d (-1) []).2.2.2.2, (kf_ship A src sent [] (upd sv 6 0) f b d (-1) []).2.2)
    else (kf_ship A src sent [] (upd sv 6 0) f b d (-1) []).2)
  else ((kf_ship A src sent [] (upd sv 6 0) f b d (-1) []).2.1, (kf_ship A src sent [] (upd sv 6 0) f b d (-1) []).2.2.1, upd (kf_ship A src sent [] (upd sv 6 0) f b d (-1) []).2.2.2.1 6 1, (kf_ship A src sent [] (upd sv 6 0) f b d (-1) []).2.2.2.2)
section
variable {g : qh_G} {L : Nat → Nat} {J h : qc_H} {A : qkA} {c : Nat}
theorem ki_X17 {w v0 v1 v2 : Nat} {v3 v4 : Int32} {K : qc_H → Prop} (hk : K (qc_up h w (.inl (.inr (14, [.ref v0, .ref v1, .ref v2, .int v3, .int v4]))))) : T_X17_init g w v0 v1 v2 v3 v4 (qc_up h w (.inl (.inr (14, [.null, .null, .null, .int 0, .int 0])))) K := by
  refine ⟨_, qc_up_s, by simp, ⟨_, qc_up_s, by simp, ⟨_, qc_up_s, by simp, ⟨_, qc_up_s, by simp, ⟨_, qc_up_s, by simp, ?_⟩⟩⟩⟩⟩
  simp only [qc_up_up, List.set]
  exact hk
theorem kt_scan {se src ol sl rl an arl atl : Nat} {b d : Int32} {sent : List qkC} {sv f : Nat → Int32} {K : qc_H → Prop} (R : qkRep g L J h A) (hla : aLa A = an) (han : h an = some (qkAn arl atl f)) (haF : qkF L an) (hsrc : src < 6)
    (hse : h se = some (qkSt L src ol sl rl sv)) (hsF : qkF L se) (hsl : qkR (isCond J) J sl sent) (hok : ∀ cd ∈ sent, qkOk cd) (hnr : (aRow A src).length ≤ 12) (hcap : ∃ m, m ≤ 12 ∧ aLn A (src / 2) 4 = nI m) (hcache : (aCache A).length ≤ 6) (hc : 420 ≤ c)
    (hk : ∀ J' h' rl', qkJw h J J' → qkRep g L J' h' (kf_scan A src sent sv f b d).1 → h' an = some (qkAn arl atl (kf_scan A src sent sv f b d).2.1) → h' se = some (qkSt L src ol sl rl' (kf_scan A src sent sv f b d).2.2.1) → qkR (isRow g J') h' rl' (kf_scan A src sent sv f b d).2.2.2 → h rl' = none → qkFx L (fun a => a = an ∨ a = se) h h' → K h') :
    T_X1_scan g (L 0) se b d h c K := by
  unfold T_X1_scan
  have haJ := R.mu han (Or.inl rfl)
  have hsJ := R.mu hse (Or.inr rfl)
  refine kt_newL (by omega) fun w hw => ?_
  have hwF := R.fresh hw
  have hwJ := R.Jn hw
  have hwa : an ≠ w := by
    intro z
    rw [z, hw] at han
    cases han
  have hws : se ≠ w := by
    intro z
    rw [z, hw] at hse
    cases hse
  have hane : an ≠ se := by
    intro z
    rw [z, hse] at han
    cases han
  refine ⟨_, by rw [qc_up_n hws]; exact hse, by simp, _, qc_up_s, by simp, ?_⟩
  simp only [qc_up_up]
  have R1 := (R.other (e := .inr []) hwF hwJ).other (e := qkSt L src ol sl w (upd sv 6 0)) hsF hsJ
  have F1 : qkFx L (fun a => a = an ∨ a = se) h (qc_up (qc_up h w (.inr [])) se (qkSt L src ol sl w (upd sv 6 0))) := (qkFx.rf.up2 hw).tr (qkFx.up (Or.inr rfl))
  have ha1 : (qc_up (qc_up h w (.inr [])) se (qkSt L src ol sl w (upd sv 6 0))) an = some (qkAn arl atl f) := by rw [qc_up_n hane, qc_up_n hwa]; exact han
  have hs1 : (qc_up (qc_up h w (.inr [])) se (qkSt L src ol sl w (upd sv 6 0))) se = some (qkSt L src ol sl w (upd sv 6 0)) := qc_up_s
  have hw1 : (qc_up (qc_up h w (.inr [])) se (qkSt L src ol sl w (upd sv 6 0))) w = some (.inr []) := by rw [qc_up_n hws.symm]; exact qc_up_s
  rw [show qc_up (qc_up h w (Sum.inr [])) se (Sum.inl (Sum.inr (13, ([Value.int (sv 0), Value.ref (L (16 + src)), Value.ref ol, Value.ref sl, Value.ref rl, Value.int (sv 5), Value.int (sv 6), Value.int (sv 7), Value.int (sv 8), Value.int (sv 9), Value.ref (L 0)].set 4 (Value.ref w)).set 6 (Value.int 0)))) = qc_up (qc_up h w (.inr [])) se (qkSt L src ol sl w (upd sv 6 0)) from rfl]
  generalize qc_up (qc_up h w (.inr [])) se (qkSt L src ol sl w (upd sv 6 0)) = h1 at R1 F1 ha1 hs1 hw1 ⊢
  refine ⟨⟨_, R1.x⟩, ek 376 (by omega) (kt_ship (i := 0) (j := 0) (q0 := 29) (rows := []) (ks := []) R1 hla ha1 haF haJ hsrc hs1 hsF hsJ hsl hok ⟨[], hw1, qkL.nil, by decide⟩ hwF hwJ (by decide) (by decide) hnr hcap (Or.inr ⟨rfl, rfl⟩) (fun z => absurd z (by decide)) (Nat.le_refl _) (by decide) (by decide) (by decide) fun h2 R2 ha2 hs2 hr2 F2 => ?_)⟩
  have Tm : qkTm A (kf_ship A src sent [] (upd sv 6 0) f b d (-1) (([] : List Int32).drop 0 |>.take (0 - 0))).2.1 := qkTm.req 3
  have e0 : (([] : List Int32).drop 0).take (0 - 0) = [] := rfl
  rw [e0] at R2 ha2 hs2 hr2 Tm ⊢
  have hcl := Nat.le_trans Tm.2.2.2.2.2.2.2.2.2.2.2.2.1.length_le hcache
  unfold kf_scan at hk
  generalize kf_ship A src sent [] (upd sv 6 0) f b d (-1) [] = sh at R2 ha2 hs2 hr2 hk hcl ⊢
  obtain ⟨o, A2, f2, sv2, rows2⟩ := sh
  dsimp only at R2 ha2 hs2 hr2 hk hcl ⊢
  have F12 : qkFx L (fun a => a = an ∨ a = se) h h2 := fun a ha hd hn => by
    have hnw : a ≠ w := by
      intro z
      rw [z, hw] at hn
      exact hn rfl
    have q1 := F1 a ha hd hn
    rw [← q1]
    exact F2 a ha (by rintro (z | z | z); exact hd (Or.inl z); exact hd (Or.inr z); exact hnw z) (by rw [q1]; exact hn)
  refine ⟨fun ho => ?_, fun ho => ⟨rfl, fun q => ?_⟩⟩
  rotate_left
  · rw [if_neg ho] at hk
    refine ⟨_, hs2, by simp, ?_⟩
    have R3 := R2.other (e := qkSt L src ol sl w (upd sv2 6 1)) hsF hsJ
    exact hk J _ w qkJw.rf R3 (by rw [qc_up_n hane]; exact ha2) qc_up_s (hr2.mono (fun e z => by rw [qc_up_n hws.symm]; exact z) (fun _ _ z => z)) hw (F12.tr (qkFx.up (Or.inr rfl)))
  rw [if_pos ho] at hk
  refine ⟨_, sv2 6, hs2, rfl, fun z => ?_, fun z => ?_⟩
  · rw [if_neg z] at hk
    exact hk J h2 w qkJw.rf R2 ha2 hs2 hr2 hw F12
  rw [if_pos z] at hk
  refine ⟨_, _, R2.x, rfl, rl_size R2.cache fun J20 hJ20 => ?_⟩
  obtain ⟨xr, xr1, xr2, xr3⟩ := hr2
  have fin : ∀ h3 es, qkRep g L J h3 (sCache A2 es) → qkFr L h2 h3 → es = (if (aCache A2).length = 6 then (aCache A2).eraseIdx 0 else aCache A2) → J20 h3 := by
    intro h3 es R3 F3 hes
    refine hJ20 h3 ⟨_, _, R3.x, rfl, c - 4 - 376 - 6, by omega, fun we hwe => ?_⟩
    have hesl : es.length ≤ 6 := by
      rw [hes]
      split
      · have := List.length_eraseIdx_le (aCache A2) 0
        omega
      · omega
    have ha3 := F3.at haF ha2
    have hs3 := F3.at hsF hs2
    have hw3 := F3.at hwF xr1
    have hsew : se ≠ we := by
      intro q
      rw [q, hwe] at hs3
      cases hs3
    have hww : w ≠ we := by
      intro q
      rw [q, hwe] at hw3
      cases hw3
    have Ro := R3.other (e := .inl (.inr (14, [.null, .null, .null, .int 0, .int 0]))) (R3.fresh hwe) (R3.Jn hwe)
    have hso : (qc_up h3 we (.inl (.inr (14, [.null, .null, .null, .int 0, .int 0])))) se = some (qkSt L src ol sl w sv2) := by rw [qc_up_n hsew]; exact hs3
    refine ⟨_, _, hso, rfl, _, _, hso, rfl, _, _, hso, rfl, _, aQ A2 15, Ro.x, rfl, _, aQ A2 14, Ro.x, rfl, ki_X17 ?_⟩
    have Q0 := R3.freeze hwF (R.freshG hw) hw3
    have kq0 : qkJw h J (qc_up J w (.inr xr)) := qkJw.up hwJ hw
    obtain ⟨k1, R4, F4⟩ := kt_keep (e := .inr (14, [.ref (L (16 + src)), .ref sl, .ref w, .int (aQ A2 15), .int (aQ A2 14)])) Q0 hwe
    have hent : isEnt g L (qc_up (qc_up J w (.inr xr)) we (.inl (.inr (14, [.ref (L (16 + src)), .ref sl, .ref w, .int (aQ A2 15), .int (aQ A2 14)])))) we (src, sent, rows2, aQ A2 15, aQ A2 14) := by
      refine ⟨sl, w, hsrc, qc_up_s, hsl.mono (fun e q => k1.1 _ _ (kq0.1 _ _ q)) (isCond.mono (kq0.1.tr k1.1)), xr, k1.1 _ _ qc_up_s, xr2.mono (isRow.mono (kq0.1.tr k1.1)), xr3⟩
    refine rl_add (w := (src, sent, rows2, aQ A2 15, aQ A2 14)) R4.cache qc_up_s (Or.inr (Or.inr (Or.inr (Or.inr (Or.inr (Or.inl rfl)))))) hent (by show es.length + es.length / 2 + 11 ≤ _; omega) fun xs hxs => ?_
    have R5 := R4.pCache hxs (by rw [List.length_append]; show es.length + 1 ≤ _; omega)
    have Fb : qkFr L h3 (qc_up (qc_up h3 we (.inl (.inr (14, [.ref (L (16 + src)), .ref sl, .ref w, .int (aQ A2 15), .int (aQ A2 14)])))) (L 35) (.inr xs)) := F4.tr (qkFr.up (by omega))
    have ha5 := Fb.at haF ha3
    have hs5 := Fb.at hsF hs3
    have hw5 := Fb.at hwF hw3
    generalize qc_up (qc_up h3 we (.inl (.inr (14, [.ref (L (16 + src)), .ref sl, .ref w, .int (aQ A2 15), .int (aQ A2 14)])))) (L 35) (.inr xs) = h5 at R5 Fb ha5 hs5 hw5 ⊢
    have kJ := kq0.tr (h' := h) k1.w (fun _ q => q)
    have last : ∀ J42 : Int32 → Prop, (∀ (x43 : Int32), (eP h5 (L (16 + src)) 6 5 (.int x43) (fun h44 => K h44)) → J42 x43) → J42 (if sent.length = 0 then nI rows2.length else aSr A2 src 5) := by
      intro J42 hJ42
      refine hJ42 _ (ks_put R5 hsrc (by omega) rfl fun h6 R6 F6 => ?_)
      refine hk _ h6 w kJ ?_ (F6.at haF ha5) (F6.at hsF hs5) ⟨xr, F6.at hwF hw5, xr2.mono (isRow.mono kJ.1), xr3⟩ hw ((((F12.tr F3.x).tr Fb.x).tr F6.x))
      unfold kf_enter
      rw [← hes]
      exact R6
    refine ⟨_, _, hs5, rfl, _, _, hs5, rfl, rl_empty (hsl.mono (fun e q => R5.jh _ _ (k1.1 _ _ (kq0.1 _ _ q))) (fun _ _ q => q)) fun J42 hJ42 => ?_⟩
    have l42 := last J42 hJ42
    refine ⟨fun q => ⟨_, _, hs5, rfl, _, aSr A2 src 5, R5.src hsrc, rfl, ?_⟩, fun q => ⟨_, _, hs5, rfl, rl_size (P := isRow g J) ⟨xr, hw5, xr2, xr3⟩ ?_⟩⟩
    · by_cases e : sent.length = 0
      · rw [if_pos e] at q
        exact absurd q (by decide)
      · rw [if_neg e] at l42
        exact l42
    · by_cases e : sent.length = 0
      · rw [if_pos e] at l42
        exact l42
      · rw [if_neg e] at q
        exact absurd rfl q
  refine ⟨fun q => fin h2 _ (by exact R2) qkFr.rf ?_, fun q => ⟨_, _, R2.x, rfl, ?_⟩⟩
  · have : ¬ (aCache A2).length = 6 := fun e => q (by rw [e]; rfl)
    rw [if_neg this]
  · have h6 : (aCache A2).length = 6 := (nI_eq (b := 6) (by omega) (by decide)).mp q
    refine rl_rem (j := 0) R2.cache rfl (List.getElem?_eq_getElem (by omega)) fun z' xs _ hxs => ?_
    have hle := List.length_eraseIdx_le (aCache A2) 0
    exact fin _ _ (R2.pCache hxs (by omega)) (qkFr.up (by omega)) (by rw [if_pos h6])
end
