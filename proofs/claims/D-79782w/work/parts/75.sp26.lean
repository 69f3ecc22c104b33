/-! SP 26: what the latest answer tells -/
set_option maxRecDepth 100000
/-- rows of an answer, to be read -/
def qkW (g : qh_G) (L : Nat → Nat) (h : qc_H) (p : Nat) (vs : List qkV) : Prop := ∃ xs : List Nat, h p = some (.inr xs) ∧ qkL (fun a (v : qkV) => h a = some (.inl (.inl (g.2.2.2.1 0, v.1, .inl v.2)))) xs vs ∧ vs.length ≤ 20000 ∧ ∀ a ∈ xs, qkF L a
theorem qkVs.w {g : qh_G} {L : Nat → Nat} {J B h : qc_H} {p : Nat} {vs : List qkV} (k : qkVs g L J B h p vs) : qkW g L h p vs := by
  obtain ⟨xs, x1, x2, x3, x4, x5⟩ := k
  exact ⟨xs, x1, x2, x3, fun a ha => (x5 a ha).1⟩
theorem qkW.size {g : qh_G} {L : Nat → Nat} {h : qc_H} {p : Nat} {vs : List qkV} {K : Int32 → Prop} (hv : qkW g L h p vs) (hk : K (nI vs.length)) : eSz h p K := by
  obtain ⟨xs, x1, x2, x3, -⟩ := hv
  exact ⟨xs, x1, by rw [x2.1]; omega, by rw [x2.1]; exact hk⟩
/-- an answer in the heap: its rows, its scalars, what was taken -/
def qkLat (g : qh_G) (L : Nat → Nat) (J h : qc_H) (an : Nat) (v : qkAns) : Prop := ∃ arl atl : Nat, h an = some (qkAn arl atl v.2.1) ∧ qkW g L h arl v.1 ∧ qkR (isInt J) h atl v.2.2 ∧ qkF L an ∧ qkF L arl ∧ qkF L atl ∧ ∀ r ∈ v.1, r.1 ≤ 3
def kf_cellOf (vs : List qkV) (a b : Int32) : Int32 × Int32 :=
  if a < 0 ∨ ¬ a < nI vs.length then (1, 0) else match vs[a.toNatClampNeg]? with
    | none => (1, 0)
    | some v => if b < 0 ∨ ¬ b < nI v.1 then (1, 0) else (0, v.2 b.toNatClampNeg)
def kf_takenAt (tk : List Int32) (a : Int32) : Int32 × Int32 :=
  if a < 0 ∨ ¬ a < nI tk.length then (1, 0) else (0, tk[a.toNatClampNeg]?.getD 0)
section
variable {g : qh_G} {L : Nat → Nat} {J h : qc_H} {A : qkA} {c : Nat} {v : qkAns}
theorem qkLat.mono {J' h' : qc_H} {an : Nat} (k : qkLat g L J h an v) (hJ : qkJ J J') (hF : qkFr L h h') : qkLat g L J' h' an v := by
  obtain ⟨arl, atl, h1, h2, h3, h4, h5, h6, h7⟩ := k
  have keep : ∀ {a : Nat} {e : qc_E}, qkF L a → h a = some e → h' a = some e := fun ha q => by
    rw [hF _ ha (by rw [q]; intro z; cases z)]
    exact q
  obtain ⟨xs, x1, x2, x3, x5⟩ := h2
  refine ⟨arl, atl, keep h4 h1, ⟨xs, keep h5 x1, x2.mono' fun i a w hi hw => keep (x5 a (List.mem_of_getElem? hi)) (x2.2 i a w hi hw), x3, x5⟩, ?_, h4, h5, h6, h7⟩
  obtain ⟨ys, y1, y2, y3⟩ := h3
  exact ⟨ys, keep h6 y1, y2.mono (isInt.mono hJ), y3⟩
theorem kt_answers {K : Int32 → Prop} (R : qkRep g L J h A) (V : qkLat g L J h (aLa A) v) (hk : K (nI v.1.length)) : T_X1_answers g (L 0) h K := by
  obtain ⟨arl, atl, h1, h2, h3, h4, h5, h6, h7⟩ := V
  exact ⟨_, _, R.x, rfl, _, _, h1, rfl, h2.size hk⟩
theorem kt_missing {K : Int32 → Prop} (R : qkRep g L J h A) (V : qkLat g L J h (aLa A) v) (hk : K (v.2.1 2)) : T_X1_missing g (L 0) h K := by
  obtain ⟨arl, atl, h1, h2, h3, h4, h5, h6, h7⟩ := V
  exact ⟨_, _, R.x, rfl, _, v.2.1 2, h1, rfl, hk⟩
theorem kt_claims {K : Int32 → Prop} (R : qkRep g L J h A) (V : qkLat g L J h (aLa A) v) (hk : K (v.2.1 3)) : T_X1_claims g (L 0) h K := by
  obtain ⟨arl, atl, h1, h2, h3, h4, h5, h6, h7⟩ := V
  exact ⟨_, _, R.x, rfl, _, v.2.1 3, h1, rfl, hk⟩
theorem kt_cost {K : Int32 → Prop} (R : qkRep g L J h A) (V : qkLat g L J h (aLa A) v) (hk : K (v.2.1 4)) : T_X1_cost g (L 0) h K := by
  obtain ⟨arl, atl, h1, h2, h3, h4, h5, h6, h7⟩ := V
  exact ⟨_, _, R.x, rfl, _, v.2.1 4, h1, rfl, hk⟩
theorem kt_attempts {K : Int32 → Prop} (R : qkRep g L J h A) (V : qkLat g L J h (aLa A) v) (hk : K (v.2.1 5)) : T_X1_attempts g (L 0) h K := by
  obtain ⟨arl, atl, h1, h2, h3, h4, h5, h6, h7⟩ := V
  exact ⟨_, _, R.x, rfl, _, v.2.1 5, h1, rfl, hk⟩
theorem kt_shipped {K : Int32 → Prop} (R : qkRep g L J h A) (V : qkLat g L J h (aLa A) v) (hk : K (v.2.1 6)) : T_X1_shipped g (L 0) h K := by
  obtain ⟨arl, atl, h1, h2, h3, h4, h5, h6, h7⟩ := V
  exact ⟨_, _, R.x, rfl, _, v.2.1 6, h1, rfl, hk⟩
theorem kt_cellOf {an : Nat} {x : Nat} {a b : Int32} {K : Int32 → Prop} {KX : String → Prop} (V : qkLat g L J h an v) (hc : 14 ≤ c) (hk : kP (kf_cellOf v.1 a b) [xI] K KX) : T_X1_cellOf g x an a b h c K KX := by
  obtain ⟨arl, atl, h1, h2, h3, h4, h5, h6, h7⟩ := V
  have hlen : v.1.length ≤ 20000 := by
    obtain ⟨xs, x1, x2, x3, -⟩ := h2
    exact x3
  unfold T_X1_cellOf
  unfold kf_cellOf at hk
  refine ⟨_, _, h1, rfl, h2.size (ek 7 (by omega) (kt_known (Nat.le_refl 7) (fun c1 c2 => ?_) (fun z => ?_)))⟩
  rotate_left
  · rw [if_pos z] at hk
    exact hk.2 0 xI rfl rfl
  rw [if_neg (by rintro (z | z); exact c1 z; exact z c2)] at hk
  obtain ⟨i, hi, rfl⟩ := ix_of _ (by omega) c1 c2
  rw [nI_clamp (by omega), List.getElem?_eq_getElem hi] at hk
  dsimp only at hk
  obtain ⟨xs, x1, q2, q3, q4⟩ := h2
  obtain ⟨p, x3, x4⟩ := q2.get (List.getElem?_eq_getElem hi)
  have x2 : xs.length ≤ 40000 := by rw [q2.1]; omega
  have hr3 := h7 _ (List.getElem_mem hi)
  refine ⟨_, _, h1, rfl, xs, i, p, x1, x2, rfl, x3, ⟨_, x4⟩, _, _, h1, rfl, xs, i, p, x1, x2, rfl, x3, ⟨_, x4⟩, _, x4, ek 7 (by omega) (kt_known (Nat.le_refl 7) (fun d1 d2 => ?_) (fun z => ?_))⟩
  rotate_left
  · have z' : b < 0 ∨ ¬ b < nI v.1[i].1 := z
    rw [if_pos z'] at hk
    exact hk.2 0 xI rfl rfl
  have d2 : b < nI v.1[i].1 := d2
  rw [if_neg (by rintro (z | z); exact d1 z; exact z d2)] at hk
  obtain ⟨j, hj, rfl⟩ := ix_of _ (by omega) d1 d2
  exact ⟨_, _, x4, vp_in_nI hj (by omega), hk.1 rfl⟩
theorem kt_answer {a b : Int32} {K : Int32 → Prop} {KX : String → Prop} (R : qkRep g L J h A) (V : qkLat g L J h (aLa A) v) (hc : 14 ≤ c) (hk : kP (kf_cellOf v.1 a b) [xI] K KX) : T_X1_answer g (L 0) a b h c K KX := by
  unfold T_X1_answer
  exact ⟨_, _, R.x, rfl, ⟨_, R.x⟩, ek 14 hc (kt_cellOf V (Nat.le_refl 14) hk)⟩
theorem kt_taken {a : Int32} {K : Int32 → Prop} {KX : String → Prop} (R : qkRep g L J h A) (V : qkLat g L J h (aLa A) v) (hc : 7 ≤ c) (hk : kP (kf_takenAt v.2.2 a) [xI] K KX) : T_X1_taken g (L 0) a h c K KX := by
  obtain ⟨arl, atl, h1, h2, h3, h4, h5, h6, h7⟩ := V
  have hlen := h3.choose_spec.2.2
  unfold T_X1_taken
  unfold kf_takenAt at hk
  refine ⟨_, _, R.x, rfl, _, _, h1, rfl, _, _, R.x, rfl, _, _, h1, rfl, rl_size h3 (ek 7 (by omega) (kt_known (Nat.le_refl 7) (fun c1 c2 => ?_) (fun z => ?_)))⟩
  rotate_left
  · rw [if_pos z] at hk
    exact hk.2 0 xI rfl rfl
  rw [if_neg (by rintro (z | z); exact c1 z; exact z c2)] at hk
  obtain ⟨i, hi, rfl⟩ := ix_of _ (by omega) c1 c2
  rw [nI_clamp (by omega), List.getElem?_eq_getElem hi] at hk
  refine rl_get h3 rfl (List.getElem?_eq_getElem hi) fun y hy => ?_
  exact ⟨⟨_, R.jh _ _ hy⟩, _, R.jh _ _ hy, hk.1 rfl⟩
theorem walk_3 {rss : Nat → List qkRow} {n : Nat} (ho : (aOut A).length ≤ 3) : ∀ r ∈ kf_walk A rss n, r.1 ≤ 3 := by
  unfold kf_walk
  refine step_inv (n := n) (P := fun vs => ∀ r ∈ vs, r.1 ≤ 3) (fun M vs _ h => ?_) (by omega) (fun i hi => absurd hi (Nat.not_lt_zero i)) (fun r hr => absurd hr List.not_mem_nil)
  unfold kf_tell
  split
  · split
    · intro r hr
      rw [List.mem_append, List.mem_singleton] at hr
      rcases hr with q | rfl
      · exact h r q
      · exact ho
    · exact h
  · unfold kf_grp
    split
    · rename_i r hr
      have hg : ∀ u ∈ kf_gins vs (kf_first A M), u.1 ≤ 3 := by
        unfold kf_gins
        split
        · exact h
        · intro u hu
          rw [List.mem_append, List.mem_cons] at hu
          rcases hu with q | rfl | q
          · exact h u (List.mem_of_mem_take q)
          · exact Nat.le_refl 3
          · exact h u (List.mem_of_mem_drop q)
      intro u hu
      rcases List.mem_or_eq_of_mem_set hu with q | q
      · exact hg u q
      · rw [q]
        exact hg r (List.mem_of_getElem? hr)
    · exact h
end
