/-! SP 24: rows gathered, claims, the answer -/
set_option maxRecDepth 100000
def kf_bit (v : qkSeat) : Int32 := if v.2.2.2.2 6 = 0 then 0 else 1 <<< (v.2.2.2.2 0 &&& 31)
def kf_sin (A : qkA) (v : qkSeat) : Int32 := kf_since (aWr A v.1) (v.2.2.2.2 8)
def kf_unt (A : qkA) (v : qkSeat) : Int32 := kf_until (aWr A v.1) (v.2.2.2.2 8) (aQ A 14)
def kf_gath (A : qkA) (ss : Nat → qkSeat) (f : Nat → Int32) : Nat → Int32 × Int32 × (Nat → Int32)
  | 0 => (0, aQ A 14, f)
  | k + 1 => (if (kf_gath A ss f k).1 < kf_sin A (ss k) then kf_sin A (ss k) else (kf_gath A ss f k).1, if kf_unt A (ss k) < (kf_gath A ss f k).2.1 then kf_unt A (ss k) else (kf_gath A ss f k).2.1, upd (kf_gath A ss f k).2.2 2 ((kf_gath A ss f k).2.2 2 ||| kf_bit (ss k)))
/-- the moment that an answer claims -/
def kf_claim (p : Int32 × Int32 × (Nat → Int32)) : Int32 := if p.2.2 2 = 0 ∧ ¬ p.2.1 < p.1 then p.2.1 else -1
def kf_vs (A : qkA) (ss : Nat → qkSeat) (n : Nat) : List qkV := (kf_walk A (fun s => (ss s).2.2.2.1) n).take (aQ A 10).toNatClampNeg
section
variable {g : qh_G} {L : Nat → Nat} {J h : qc_H} {A : qkA} {c : Nat}
theorem kt_gather {al n an arl atl cc rw' : Nat} {sa rl : Nat → Nat} {ss : Nat → qkSeat} {f : Nat → Int32} {tk : List Int32} {J0 B : qc_H} {AFTER : Int32 → Int32 → qc_H → Nat → Prop} (T : qkTS g L J0 B J h A n al an arl atl sa rl ss f tk) (hrw : h rw' = none) (hc : 16 * n + cc ≤ c)
    (hk : ∀ h' c', qkRep g L J h' A → h' an = some (qkAn arl atl (kf_gath A ss f n).2.2) → h' rw' = some (.inr ((List.range n).map rl)) → (∀ a, a ≠ an → a ≠ rw' → h' a = h a) → cc ≤ c' → AFTER (kf_gath A ss f n).1 (kf_gath A ss f n).2.1 h' c') :
    ∀ X45 : Int32 → Int32 → Int32 → qc_H → Nat → Prop, (∀ (x46 : Int32) (x47 : Int32) (x48 : Int32) (h49 : qc_H) (c50 : Nat), ((nI n ≤ x48 → AFTER x46 x47 h49 c50) ∧ (¬ nI n ≤ x48 → eQ g.2.2.2.1 7 h49 al x48 (fun v69 => eR h49 v69 13 4 (fun v70 => eAd g h49 rw' v70 c50 (fun h71 c72 => eR h71 (L 0) 0 12 (fun v73 => eI h71 v73 5 2 (fun v74 => eI h71 v69 13 6 (fun v75 => ∀ J78 : Int32 → Prop, (∀ (x79 : Int32), (eP h71 v73 5 2 (.int (v74 ||| x79)) (fun h80 => eR h80 v69 13 1 (fun v81 => eI h80 v69 13 8 (fun v82 => eC h80 v81 6 (T_X7_since g v81 v82 h80 (fun r83 => ∀ u84 : Int32, u84 = (if x46 < r83 then r83 else x46) → eR h80 v69 13 1 (fun v85 => eI h80 v69 13 8 (fun v86 => eI h80 (L 0) 0 14 (fun v87 => eC h80 v85 6 (T_X7_until g v85 v86 v87 h80 (fun r88 => ∀ u89 : Int32, u89 = (if r88 < x47 then r88 else x47) → X45 u84 u89 (x48 + 1) h80 c72))))))))))) → J78 x79) → (v75 = 0 → J78 0) ∧ (¬ v75 = 0 → eI h71 v69 13 0 (fun v77 => J78 (1 <<< (v77 &&& 31)))))))))))) → X45 x46 x47 x48 h49 c50) → X45 0 (aQ A 14) 0 (qc_up h rw' (.inr [])) c := by
  obtain ⟨R, S, hla, han, hanF, ⟨har, harF, harJ⟩, ⟨hat, hatF, hatJ⟩, hrt, hgd, hT1, hinj, ⟨hBan, hBar, hBat⟩, hFr, hB, hJ0, halF⟩ := T
  obtain ⟨hn3, ⟨F, e1, eF⟩, hS, hsinj⟩ := S
  intro X hX
  have hrwF := R.fresh hrw
  have hrwJ := R.Jn hrw
  have haJ := R.mu han (Or.inl rfl)
  have ne : ∀ {a : Nat} {e : qc_E}, h a = some e → a ≠ rw' := fun z q => by
    rw [q, hrw] at z
    cases z
  have han_al : al ≠ an := fun z => by rw [z, han] at e1; cases e1
  have key : ∀ (m k : Nat) (h1 : qc_H) (c1 : Nat), k + m = n → qkRep g L J h1 A → h1 an = some (qkAn arl atl (kf_gath A ss f k).2.2) → h1 rw' = some (.inr ((List.range k).map rl)) → (∀ a, a ≠ an → a ≠ rw' → h1 a = h a) → 16 * m + cc ≤ c1 → X (kf_gath A ss f k).1 (kf_gath A ss f k).2.1 (nI k) h1 c1 := by
    intro m
    induction m with
    | zero =>
      intro k h1 c1 hkm R1 ha1 hr1 F1 hc1
      have hkn : k = n := by omega
      subst hkn
      exact hX _ _ _ _ _ ⟨fun _ => hk h1 c1 R1 ha1 hr1 F1 (by omega), fun z => absurd (nI_le (Nat.le_refl _) (by omega)) z⟩
    | succ m ih =>
      intro k h1 c1 hkm R1 ha1 hr1 F1 hc1
      have hkn : k < n := by omega
      obtain ⟨ol, sl, s1, s2, s3, s4, ⟨ys, s5, s6, s7⟩, s8⟩ := hS k hkn
      have hsan : sa k ≠ an := fun z => by
        obtain ⟨q1, q2, q3, q4, q5, q6, q7, q8, q9, q10, q11⟩ := hT1 k hkn
        rw [z, han] at s1
        cases s1
      have hrlan : rl k ≠ an := fun z => by rw [z, han] at s5; cases s5
      have b1 : h1 (sa k) = some (qkSt L (ss k).1 ol sl (rl k) (ss k).2.2.2.2) := by rw [F1 _ hsan (ne s1)]; exact s1
      have b2 : h1 (rl k) = some (.inr ys) := by rw [F1 _ hrlan (ne s5)]; exact s5
      have b3 : h1 al = some (.inl (.inl (g.2.2.2.1 7, n, .inr (.inr (.inr (.inr F)))))) := by rw [F1 _ han_al (ne e1)]; exact e1
      refine hX _ _ _ _ _ ⟨fun z => absurd z (nI_ge hkn (by omega)), fun _ => ⟨n, F, sa k, b3, vp_in_nI hkn (by omega), by rw [nI_clamp (by omega)]; exact eF k hkn, _, rl k, b1, rfl, (List.range k).map rl, _, c1 - (k + k / 2 + 11), hr1, by rw [List.length_map, List.length_range]; omega, b2, trivial, by rw [List.length_map, List.length_range]; omega, ?_⟩⟩
      have hrm : (List.range k).map rl ++ [rl k] = (List.range (k + 1)).map rl := by rw [List.range_succ, List.map_append]; rfl
      rw [hrm]
      have R2 := R1.other (e := .inr ((List.range (k + 1)).map rl)) hrwF hrwJ
      have c1' : (qc_up h1 rw' (.inr ((List.range (k + 1)).map rl)) : qc_H) an = some (qkAn arl atl (kf_gath A ss f k).2.2) := by rw [qc_up_n (ne han)]; exact ha1
      have c2 : (qc_up h1 rw' (.inr ((List.range (k + 1)).map rl)) : qc_H) (sa k) = some (qkSt L (ss k).1 ol sl (rl k) (ss k).2.2.2.2) := by rw [qc_up_n (ne s1)]; exact b1
      have c3 : (qc_up h1 rw' (.inr ((List.range (k + 1)).map rl)) : qc_H) rw' = some _ := qc_up_s
      have c4 : ∀ a, a ≠ an → a ≠ rw' → (qc_up h1 rw' (.inr ((List.range (k + 1)).map rl)) : qc_H) a = h a := fun a p q => by rw [qc_up_n q]; exact F1 a p q
      generalize qc_up h1 rw' (.inr ((List.range (k + 1)).map rl)) = h2 at R2 c1' c2 c3 c4 ⊢
      refine ⟨_, _, R2.x, rfl, _, (kf_gath A ss f k).2.2 2, by rw [hla]; exact c1', rfl, _, (ss k).2.2.2.2 6, c2, rfl, fun J78 hJ78 => ?_⟩
      have fin : J78 (kf_bit (ss k)) := by
        refine hJ78 _ ⟨_, by rw [hla]; exact c1', by simp, ?_⟩
        rw [hla]
        have R3 := R2.other (e := qkAn arl atl (upd (kf_gath A ss f k).2.2 2 ((kf_gath A ss f k).2.2 2 ||| kf_bit (ss k)))) hanF haJ
        have d1 : (qc_up h2 an (qkAn arl atl (upd (kf_gath A ss f k).2.2 2 ((kf_gath A ss f k).2.2 2 ||| kf_bit (ss k)))) : qc_H) (sa k) = some (qkSt L (ss k).1 ol sl (rl k) (ss k).2.2.2.2) := by rw [qc_up_n hsan]; exact c2
        have d2 : (qc_up h2 an (qkAn arl atl (upd (kf_gath A ss f k).2.2 2 ((kf_gath A ss f k).2.2 2 ||| kf_bit (ss k)))) : qc_H) an = some _ := qc_up_s
        have d3 : (qc_up h2 an (qkAn arl atl (upd (kf_gath A ss f k).2.2 2 ((kf_gath A ss f k).2.2 2 ||| kf_bit (ss k)))) : qc_H) rw' = some (.inr ((List.range (k + 1)).map rl)) := by rw [qc_up_n (ne han).symm]; exact c3
        have d4 : ∀ a, a ≠ an → a ≠ rw' → (qc_up h2 an (qkAn arl atl (upd (kf_gath A ss f k).2.2 2 ((kf_gath A ss f k).2.2 2 ||| kf_bit (ss k)))) : qc_H) a = h a := fun a p q => by rw [qc_up_n p]; exact c4 a p q
        have eset : (qc_up h2 an (.inl (.inr (5, [Value.ref arl, .ref atl, .int ((kf_gath A ss f k).2.2 2), .int ((kf_gath A ss f k).2.2 3), .int ((kf_gath A ss f k).2.2 4), .int ((kf_gath A ss f k).2.2 5), .int ((kf_gath A ss f k).2.2 6)].set 2 (.int ((kf_gath A ss f k).2.2 2 ||| kf_bit (ss k)))))) : qc_H) = qc_up h2 an (qkAn arl atl (upd (kf_gath A ss f k).2.2 2 ((kf_gath A ss f k).2.2 2 ||| kf_bit (ss k)))) := by
          unfold qkAn
          rw [upd_s, upd_n (by decide), upd_n (by decide), upd_n (by decide), upd_n (by decide)]
          rfl
        show eR (qc_up h2 an (.inl (.inr (5, [Value.ref arl, .ref atl, .int ((kf_gath A ss f k).2.2 2), .int ((kf_gath A ss f k).2.2 3), .int ((kf_gath A ss f k).2.2 4), .int ((kf_gath A ss f k).2.2 5), .int ((kf_gath A ss f k).2.2 6)].set 2 (.int ((kf_gath A ss f k).2.2 2 ||| kf_bit (ss k))))))) (sa k) 13 1 _
        rw [eset]
        have hg1 : kf_gath A ss f (k + 1) = (if (kf_gath A ss f k).1 < kf_sin A (ss k) then kf_sin A (ss k) else (kf_gath A ss f k).1, if kf_unt A (ss k) < (kf_gath A ss f k).2.1 then kf_unt A (ss k) else (kf_gath A ss f k).2.1, upd (kf_gath A ss f k).2.2 2 ((kf_gath A ss f k).2.2 2 ||| kf_bit (ss k))) := rfl
        generalize qc_up h2 an (qkAn arl atl (upd (kf_gath A ss f k).2.2 2 ((kf_gath A ss f k).2.2 2 ||| kf_bit (ss k)))) = h3 at R3 d1 d2 d3 d4 ⊢
        refine ⟨_, _, d1, rfl, _, (ss k).2.2.2.2 8, d1, rfl, ⟨_, R3.src s2⟩, kt_since R3 s2 fun u84 hu => ⟨_, _, d1, rfl, _, (ss k).2.2.2.2 8, d1, rfl, _, aQ A 14, R3.x, rfl, ⟨_, R3.src s2⟩, kt_until R3 s2 fun u89 hv => ?_⟩⟩
        rw [nI_1, hu, hv]
        have := ih (k + 1) h3 (c1 - (k + k / 2 + 11)) (by omega) R3 (by rw [hg1]; exact d2) d3 d4 (by omega)
        rw [hg1] at this
        exact this
      refine ⟨fun z => ?_, fun z => ⟨_, (ss k).2.2.2.2 0, c2, rfl, ?_⟩⟩
      · unfold kf_bit at fin
        rw [if_pos z] at fin
        exact fin
      · unfold kf_bit at fin
        rw [if_neg z] at fin
        exact fin
  have ha0 : (qc_up h rw' (.inr []) : qc_H) an = some (qkAn arl atl f) := by rw [qc_up_n (ne han)]; exact han
  exact key n 0 _ c (by omega) (R.other hrwF hrwJ) ha0 qc_up_s (fun a _ q => qc_up_n q) hc
end
