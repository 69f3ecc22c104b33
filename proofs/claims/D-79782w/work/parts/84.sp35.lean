/-! SP 35: all data as they are, joined -/
set_option maxRecDepth 100000
section
variable {g : qh_G} {L : Nat → Nat} {J h : qc_H} {A : qkA} {c : Nat}
theorem kt_anew {lim : Nat} {K : Nat → qc_H → Prop} {KX : String → qc_H → Prop} (R : qkRep g L J h A) (hgd : qkGd A) (hsrc : ∀ (k : Nat) (v : Int32), (aSeat A)[k]? = some v → ∃ s, s < 6 ∧ v = nI s) (hn3 : (aSeat A).length ≤ 3) (hcl : (aCond A).length ≤ 4) (hok : ∀ cd ∈ aCond A, qkOk cd) (hlk : ∀ l ∈ aLink A, qkLk l) (ho : ∀ o ∈ aOut A, qkOo (aSeat A).length o) (ho3 : (aOut A).length ≤ 3) (hlim : aQ A 10 = nI lim) (hl : lim ≤ 40) (hc : 5500 ≤ c)
    (k2 : (aSeat A).length = 0 ∨ (aOut A).length = 0 → KX xS h)
    (k0 : ¬ ((aSeat A).length = 0 ∨ (aOut A).length = 0) → ∀ J' h' an arl atl, qkJw h J J' → qkRep g L J' h' A → qkF L an → qkF L arl → qkF L atl → h' an = some (qkAn arl atl kf_f0) → qkVs g L J' h h' arl (kf_anew A) → h' atl = some (.inr []) → qkFr L h h' → K an h') : T_X1_anew g (L 0) h c K KX := by
  unfold T_X1_anew
  refine ⟨_, _, R.x, rfl, rl_empty R.seats fun J11 hJ11 => ?_⟩
  have bad : (aSeat A).length = 0 ∨ (aOut A).length = 0 → J11 0 := fun z => hJ11 0 (ek 7 (by omega) (kt_allowed (Nat.le_refl 7) (fun q => absurd rfl q) (fun _ => k2 z)))
  by_cases hz : (aSeat A).length = 0 ∨ (aOut A).length = 0
  · refine ⟨fun _ => bad hz, fun z => ⟨_, _, R.x, rfl, rl_empty R.outs ⟨fun _ => bad hz, fun z1 => ?_⟩⟩⟩
    exfalso
    rcases hz with q | q
    · rw [if_pos q] at z
      exact absurd z (by decide)
    · rw [if_pos q] at z1
      exact absurd z1 (by decide)
  have hne : (aSeat A).length ≠ 0 ∧ (aOut A).length ≠ 0 := ⟨fun q => hz (Or.inl q), fun q => hz (Or.inr q)⟩
  have k0 := k0 hz
  suffices good : J11 1 by
    refine ⟨fun z => absurd (by rw [if_neg hne.1]) z, fun z => ⟨_, _, R.x, rfl, rl_empty R.outs ⟨fun z1 => absurd (by rw [if_neg hne.2]) z1, fun _ => good⟩⟩⟩
  refine hJ11 1 (ek 7 (by omega) (kt_allowed (Nat.le_refl 7) (fun _ => ?_) (fun q => absurd q (by decide))))
  clear bad hJ11 k2
  refine kt_newL (by omega) fun al hal => ?_
  have halF := R.fresh hal
  have halJ := R.Jn hal
  intro X hX
  have key : ∀ (m k : Nat) (J1 h1 : qc_H) (c1 : Nat) (rl : Nat → Nat), k + m = (aSeat A).length → qkJw h J J1 → qkRep g L J1 h1 A → h1 al = some (.inr ((List.range k).map rl)) → J1 al = none → (∀ i, i < k → qkR (isRow g J1) h1 (rl i) (kf_anrows A i) ∧ qkF L (rl i) ∧ h (rl i) = none ∧ rl i ≠ al) → qkFx L (fun a => a = al) h h1 → (∀ a, h1 a = none → h a = none) → 560 * m + 3100 ≤ c1 → X (nI k) h1 c1 := by
    intro m
    induction m with
    | zero =>
      intro k J1 h1 c1 rl hkm j1 R1 hal1 halJ1 hrl F1 up1 hc1
      have hkn : k = (aSeat A).length := by omega
      subst hkn
      refine hX _ _ _ ⟨_, _, R1.x, rfl, rl_size R1.seats ⟨fun _ => ?_, fun z => absurd (nI_le (Nat.le_refl _) (by omega)) z⟩⟩
      refine ⟨c1 - 8, by omega, fun an han => ?_⟩
      have hanF := R1.fresh han
      have R2 := R1.other (e := .inl (.inr (5, [.null, .null, .int 0, .int 0, .int 0, .int 0, .int 0]))) hanF (R1.Jn han)
      refine ek 8 (by omega) (kt_ansInit R2 qc_up_s hanF (Nat.le_refl 8) fun h2 arl atl R3 ha3 har3 hat3 har1 hat1 hrt F3 => ?_)
      have upn : ∀ x, (qc_up h1 an (.inl (.inr (5, [.null, .null, .int 0, .int 0, .int 0, .int 0, .int 0]))) : qc_H) x = none → h1 x = none := fun x z => by
        by_cases q : x = an
        · rw [q]; exact han
        · rw [qc_up_n q] at z; exact z
      have F03 : qkFx L (fun _ => False) h1 h2 := fx_fresh (fun a _ _ hn => qc_up_n (fun z => hn (by rw [z]; exact han))) F3 han
      have har0 := upn arl har1
      have hat0 := upn atl hat1
      have harF := R1.fresh har0
      have hatF := R1.fresh hat0
      have keep : ∀ {x : Nat} {e : qc_E}, qkF L x → h1 x = some e → h2 x = some e := fun hx q => F03.at hx (fun z => z) q
      have up2 : ∀ x, h2 x = none → h1 x = none := hd_of R3 F03 (fun a z => z.elim)
      have nar : ∀ {x : Nat} {e : qc_E}, h1 x = some e → x ≠ arl := fun q z => by rw [z, har0] at q; cases q
      refine ⟨⟨_, R3.x⟩, ek 3004 (by omega) (kt_walk (n := (aSeat A).length) (lim := lim) (rss := kf_anrows A) R3 ha3 hanF har3 harF (R1.Jn har0) hn3 ho (by omega) ho3 hlim hl hlk (keep halF hal1) (by rw [List.length_map, List.length_range]) halF (nar hal1) (fun i hi => ?_) (walk_len hn3 hlim hl (fun i hi => ?_) (by omega) ho) (Nat.le_refl _) fun h4 R4 ha4 hv4 F4 => ⟨⟨_, R4.x⟩, kt_cut R4 ha4 hv4 harF (R1.Jn har0) hlim hl fun h5 R5 ha5 hv5 F5 => ?_⟩)⟩
      · obtain ⟨q1, q2, q3, q4⟩ := hrl i hi
        have q1' := q1
        obtain ⟨ys, y1, -⟩ := q1'
        refine ⟨rl i, ?_, q1.mono (fun e z => keep q2 z) (fun _ _ q => q), ?_, q2, nar y1⟩
        · rw [List.getElem?_map, List.getElem?_range hi]
          rfl
        · obtain ⟨s, hs, hsv⟩ := hsrc i _ (List.getElem?_eq_getElem hi)
          have : kf_sno A i < 6 := by
            unfold kf_sno
            rw [List.getElem?_eq_getElem hi, hsv]
            show (nI s).toNatClampNeg < 6
            rw [nI_clamp (by omega)]
            exact hs
          exact Nat.le_trans (List.length_filter_le _ _) (hgd.1 _ this).1
      · obtain ⟨s, hs, hsv⟩ := hsrc i _ (List.getElem?_eq_getElem hi)
        have : kf_sno A i < 6 := by
          unfold kf_sno
          rw [List.getElem?_eq_getElem hi, hsv]
          show (nI s).toNatClampNeg < 6
          rw [nI_clamp (by omega)]
          exact hs
        exact ⟨Nat.le_trans (List.length_filter_le _ _) (hgd.1 _ this).1, fun r hr => (hgd.1 _ this).2 r (List.mem_filter.mp hr).1⟩
      · have hvv : kf_anew A = (kf_walk A (kf_anrows A) (aSeat A).length).take lim := by
          unfold kf_anew
          rw [hlim, nI_clamp (by omega)]
        rw [← hvv] at hv5
        have k5 : ∀ {x : Nat} {e : qc_E}, qkF L x → x ≠ arl → h2 x = some e → h5 x = some e := fun hx hd q => F5.at hx hd (F4.at hx hd q)
        refine k0 J1 h5 an arl atl j1 R5 hanF harF hatF ha5 ?_ (k5 hatF (Ne.symm hrt) hat3) fun x hx hn => ?_
        · obtain ⟨xs, x1, x2, x3, x4, x5⟩ := hv5
          exact ⟨xs, x1, x2, x3, x4, fun y hy => ⟨(x5 y hy).1, (x5 y hy).2.1, up1 y (up2 y (x5 y hy).2.2)⟩⟩
        · have e1 := F1 x hx (fun z => hn (by rw [show x = al from z]; exact hal)) hn
          cases hz : h x with
          | none => exact absurd hz hn
          | some e =>
            rw [hz] at e1
            exact k5 hx (nar e1) (keep hx e1)
    | succ m ih =>
      intro k J1 h1 c1 rl hkm j1 R1 hal1 halJ1 hrl F1 up1 hc1
      have hkl : k < (aSeat A).length := by omega
      obtain ⟨s, hs, hsv⟩ := hsrc k _ (List.getElem?_eq_getElem hkl)
      have hget : (aSeat A)[k]? = some (nI s) := by rw [List.getElem?_eq_getElem hkl, hsv]
      have hks : kf_sno A k = s := by
        unfold kf_sno
        rw [hget]
        exact nI_clamp (by omega)
      refine hX _ _ _ ⟨_, _, R1.x, rfl, rl_size R1.seats ⟨fun z => absurd z (nI_ge hkl (by omega)), fun _ => ?_⟩⟩
      refine kt_anseat R1 hal1 halF halJ1 (by rw [List.length_map, List.length_range]; omega) hget hs hcl hok (hgd.1 s hs).1 (by omega) fun J2 h2 w j2 R2 hal2 halJ2 hw hwF hr2 F2 up2 c2 hc2 => ?_
      rw [nI_1]
      have hmap : (List.range (k + 1)).map (qkU rl k w) = (List.range k).map rl ++ [w] := by
        rw [List.range_succ, List.map_append]
        show _ ++ [qkU rl k w k] = _
        rw [qkU_s]
        congr 1
        refine List.map_congr_left fun i hi => ?_
        rw [List.mem_range] at hi
        exact qkU_n (by omega)
      have hwal : w ≠ al := fun z => by
        rw [z, hal1] at hw
        cases hw
      refine ih (k + 1) J2 h2 c2 (qkU rl k w) (by omega) (j1.tr j2 up1) R2 (by rw [hmap]; exact hal2) halJ2 (fun i hi => ?_) (F1.tr F2) (fun a z => up1 a (up2 a z)) (by omega)
      by_cases e : i = k
      · subst e
        rw [qkU_s]
        refine ⟨?_, hwF, up1 w hw, hwal⟩
        unfold kf_anrows
        rw [hks]
        exact hr2
      · rw [qkU_n e]
        obtain ⟨q1, q2, q3, q4⟩ := hrl i (by omega)
        exact ⟨q1.mono (fun e z => F2.at q2 q4 z) (isRow.mono j2.1), q2, q3, q4⟩
  exact key (aSeat A).length 0 J _ _ (fun _ => 0) (by omega) qkJw.rf (R.other halF halJ) qc_up_s halJ (fun i hi => absurd hi (Nat.not_lt_zero i)) (fun a _ hd _ => qc_up_n hd) (fun a z => by
    by_cases q : a = al
    · rw [q]; exact hal
    · rw [qc_up_n q] at z; exact z) (by omega)
end
