/-! SP 36: answers of all data as they are -/
set_option maxRecDepth 100000
section
variable {g : qh_G} {L : Nat → Nat} {J h : qc_H} {A : qkA} {c : Nat}
theorem anew_lat {J' h' : qc_H} {an arl atl : Nat} {B : qc_H} (ho3 : (aOut A).length ≤ 3) (hanF : qkF L an) (harF : qkF L arl) (hatF : qkF L atl) (ha : h' an = some (qkAn arl atl kf_f0)) (hv : qkVs g L J' B h' arl (kf_anew A)) (ht : h' atl = some (.inr [])) : qkLat g L J' h' an (kf_anew A, kf_f0, []) :=
  ⟨arl, atl, ha, hv.w, ⟨[], ht, qkL.nil, Nat.zero_le _⟩, hanF, harF, hatF, fun r hr => walk_3 ho3 r (List.mem_of_mem_take hr)⟩
theorem kt_answersAnew {lim : Nat} {K : Int32 → qc_H → Prop} {KX : String → qc_H → Prop} (R : qkRep g L J h A) (hgd : qkGd A) (hsrc : ∀ (k : Nat) (v : Int32), (aSeat A)[k]? = some v → ∃ s, s < 6 ∧ v = nI s) (hn3 : (aSeat A).length ≤ 3) (hcl : (aCond A).length ≤ 4) (hok : ∀ cd ∈ aCond A, qkOk cd) (hlk : ∀ l ∈ aLink A, qkLk l) (ho : ∀ o ∈ aOut A, qkOo (aSeat A).length o) (ho3 : (aOut A).length ≤ 3) (hlim : aQ A 10 = nI lim) (hl : lim ≤ 40) (hc : 5500 ≤ c)
    (k2 : (aSeat A).length = 0 ∨ (aOut A).length = 0 → KX xS h)
    (k0 : ¬ ((aSeat A).length = 0 ∨ (aOut A).length = 0) → ∀ J' h', qkJw h J J' → qkRep g L J' h' A → qkFr L h h' → K (nI (kf_anew A).length) h') : T_X1_answersAnew g (L 0) h c K KX := by
  unfold T_X1_answersAnew
  refine ⟨⟨_, R.x⟩, ek 5500 hc (kt_anew R hgd hsrc hn3 hcl hok hlk ho ho3 hlim hl (Nat.le_refl _) k2 fun hz J1 h1 an arl atl j1 R1 hanF harF hatF ha hv ht F1 => ?_)⟩
  exact ⟨_, _, ha, rfl, hv.size (k0 hz J1 h1 j1 R1 F1)⟩
theorem kt_answerAnew {a b : Int32} {lim : Nat} {K : Int32 → qc_H → Prop} {KX : String → qc_H → Prop} (R : qkRep g L J h A) (hgd : qkGd A) (hsrc : ∀ (k : Nat) (v : Int32), (aSeat A)[k]? = some v → ∃ s, s < 6 ∧ v = nI s) (hn3 : (aSeat A).length ≤ 3) (hcl : (aCond A).length ≤ 4) (hok : ∀ cd ∈ aCond A, qkOk cd) (hlk : ∀ l ∈ aLink A, qkLk l) (ho : ∀ o ∈ aOut A, qkOo (aSeat A).length o) (ho3 : (aOut A).length ≤ 3) (hlim : aQ A 10 = nI lim) (hl : lim ≤ 40) (hc : 5514 ≤ c)
    (k2 : (aSeat A).length = 0 ∨ (aOut A).length = 0 → KX xS h)
    (k0 : ¬ ((aSeat A).length = 0 ∨ (aOut A).length = 0) → ∀ J' h', qkJw h J J' → qkRep g L J' h' A → qkFr L h h' → kP (kf_cellOf (kf_anew A) a b) [xI] (fun r => K r h') (fun E => KX E h')) : T_X1_answerAnew g (L 0) a b h c K KX := by
  unfold T_X1_answerAnew
  refine ⟨⟨_, R.x⟩, ek 5500 (by omega) (kt_anew R hgd hsrc hn3 hcl hok hlk ho ho3 hlim hl (Nat.le_refl _) k2 fun hz J1 h1 an arl atl j1 R1 hanF harF hatF ha hv ht F1 => ?_)⟩
  exact ⟨⟨_, R1.x⟩, ek 14 (by omega) (kt_cellOf (anew_lat ho3 hanF harF hatF ha hv ht) (Nat.le_refl 14) (k0 hz J1 h1 j1 R1 F1))⟩
end
