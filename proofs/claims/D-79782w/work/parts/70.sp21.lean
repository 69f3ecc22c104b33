/-! SP 21: a seat's number; how many rows an answer may have -/
set_option maxRecDepth 100000
theorem ship_0 {A : qkA} {src : Nat} {sent : List qkC} {rows : List qkRow} {sv f : Nat → Int32} {b d col : Int32} {ks : List Int32} : (kf_ship A src sent rows sv f b d col ks).2.2.2.1 0 = sv 0 := by
  unfold kf_ship
  dsimp only
  split
  · dsimp only
    rw [upd_n (by decide), upd_n (by decide), upd_n (by decide), upd_n (by decide)]
  · dsimp only
    rw [upd_n (by decide)]
theorem scan_0 {A : qkA} {src : Nat} {sent : List qkC} {sv f : Nat → Int32} {b d : Int32} : (kf_scan A src sent sv f b d).2.2.1 0 = sv 0 := by
  have h := ship_0 (A := A) (src := src) (sent := sent) (rows := []) (sv := upd sv 6 0) (f := f) (b := b) (d := d) (col := -1) (ks := [])
  rw [upd_n (by decide)] at h
  unfold kf_scan
  split
  · split
    · exact h
    · exact h
  · show upd _ 6 1 0 = _
    rw [upd_n (by decide)]
    exact h
theorem bl_0 {src : Nat} {sent : List qkC} {ks : List Int32} {col b d most : Int32} : ∀ {n k : Nat} {A : qkA} {f sv : Nat → Int32} {rows : List qkRow}, (kf_bl src sent ks col b d most n k A f sv rows).2.2.2.1 0 = sv 0
  | 0, _, _, _, _, _ => rfl
  | n + 1, k, A, f, sv, rows => by
    have h : (kf_bship src sent ks col b d k A f sv rows).2.2.2.1 0 = sv 0 := ship_0
    rw [kf_bl]
    split
    · split
      · exact bl_0.trans h
      · show upd _ 7 2 0 = _
        rw [upd_n (by decide)]
        exact h
    · show upd _ 6 1 0 = _
      rw [upd_n (by decide)]
      exact h
theorem bind_0 {A : qkA} {src osrc : Nat} {sent : List qkC} {sv osv : Nat → Int32} {orows : List qkRow} {l : qkC} {b d : Int32} {f : Nat → Int32} : (kf_bind A src osrc sent sv osv orows l b d f).2.2.2.1 0 = sv 0 := by
  unfold kf_bind
  split
  · rfl
  · split
    · rfl
    · split
      · rfl
      · rw [bl_0, upd_n (by decide), upd_n (by decide)]
theorem pre_0 {A : qkA} {n : Nat} {ss : Nat → qkSeat} {i : Nat} {fresh b d : Int32} {f : Nat → Int32} : (kf_pre A n ss i fresh b d f).2.2.1 0 = (ss i).2.2.2.2 0 := by
  unfold kf_pre
  split
  · split
    · rename_i e _ _ E _
      show upd (upd (upd (ss i).2.2.2.2 7 3) 7 0) 8 E.2.2.2.2 0 = _
      rw [upd_n (by decide), upd_n (by decide), upd_n (by decide)]
    · rfl
  · split
    · rw [scan_0, upd_n (by decide)]
    · split
      · rfl
      · split
        · rw [scan_0, bind_0, upd_n (by decide)]
        · rw [bind_0, upd_n (by decide)]
theorem take_0 {A : qkA} {n : Nat} {ss : Nat → qkSeat} {i : Nat} {fresh b d : Int32} {f : Nat → Int32} : (kf_take A n ss i fresh b d f).2.2.2.2.2.2 0 = (ss i).2.2.2.2 0 := by
  show upd (kf_pre A n ss i fresh b d f).2.2.1 5 1 0 = _
  rw [upd_n (by decide), pre_0]
theorem take_5 {A : qkA} {n : Nat} {ss : Nat → qkSeat} {i : Nat} {fresh b d : Int32} {f : Nat → Int32} : ¬ (kf_take A n ss i fresh b d f).2.2.2.2.2.2 5 = 0 := by
  show ¬ upd (kf_pre A n ss i fresh b d f).2.2.1 5 1 5 = 0
  rw [upd_s]
  decide
/-! how long an answer may be -/
theorem nd_le : ∀ {l C : List Int32}, l.Nodup → (∀ a ∈ l, a ∈ C) → l.length ≤ C.length
  | [], _, _, _ => Nat.zero_le _
  | a :: t, C, hn, hs => by
    rw [List.nodup_cons] at hn
    have ha := hs a List.mem_cons_self
    have ih := nd_le (l := t) (C := C.erase a) hn.2 fun b hb => by
      refine (List.mem_erase_of_ne ?_).mpr (hs b (List.mem_cons_of_mem _ hb))
      intro z
      rw [z] at hb
      exact hn.1 hb
    rw [List.length_erase_of_mem ha] at ih
    have := List.length_pos_of_mem ha
    rw [List.length_cons]
    omega
theorem num_iff {v : Int32} : kf_num v = true ↔ -999 ≤ v.toInt ∧ v.toInt ≤ 999 := by
  unfold kf_num
  rw [decide_eq_true_iff, Int32.lt_iff_toInt_lt, Int32.lt_iff_toInt_lt]
  have e1 : (-999 : Int32).toInt = -999 := by decide
  have e2 : (999 : Int32).toInt = 999 := by decide
  rw [e1, e2]
  omega
theorem rank_inj {v w : Int32} (hv : kf_val v) (hw : kf_val w) (h : kf_rank v = kf_rank w) : v = w := by
  have e0 : (5000 : Int32).toInt = 5000 := by decide
  have e1 : (5001 : Int32).toInt = 5001 := by decide
  have f0 : (-1000 : Int32).toInt = -1000 := by decide
  have f1 : (-1001 : Int32).toInt = -1001 := by decide
  have num : ∀ u : Int32, kf_num u = true → ¬ u = 5000 ∧ ¬ u = 5001 ∧ ¬ u = -1000 ∧ ¬ u = -1001 := by
    intro u hu
    rw [num_iff] at hu
    refine ⟨fun z => ?_, fun z => ?_, fun z => ?_, fun z => ?_⟩
    · rw [z, e0] at hu; omega
    · rw [z, e1] at hu; omega
    · rw [z, f0] at hu; omega
    · rw [z, f1] at hu; omega
  rcases hv with a | rfl | rfl <;> rcases hw with b | rfl | rfl
  · obtain ⟨a1, a2, -⟩ := num v a
    obtain ⟨b1, b2, -⟩ := num w b
    unfold kf_rank at h
    rw [if_neg a2, if_neg a1, if_neg b2, if_neg b1] at h
    exact h
  · obtain ⟨a1, a2, a3, a4⟩ := num v a
    unfold kf_rank at h
    rw [if_neg a2, if_neg a1, if_neg (by decide), if_pos rfl] at h
    exact absurd h a3
  · obtain ⟨a1, a2, a3, a4⟩ := num v a
    unfold kf_rank at h
    rw [if_neg a2, if_neg a1, if_pos rfl] at h
    exact absurd h a4
  · obtain ⟨a1, a2, a3, a4⟩ := num w b
    unfold kf_rank at h
    rw [if_neg a2, if_neg a1, if_neg (by decide), if_pos rfl] at h
    exact absurd h.symm a3
  · rfl
  · exact absurd h (by decide)
  · obtain ⟨a1, a2, a3, a4⟩ := num w b
    unfold kf_rank at h
    rw [if_neg a2, if_neg a1, if_pos rfl] at h
    exact absurd h.symm a4
  · exact absurd h (by decide)
  · rfl
/-- groups: in order of rank, their cells out of C -/
def qkGr (C : List Int32) (vs : List qkV) : Prop := vs.Pairwise (fun a b => kf_rank (a.2 0) < kf_rank (b.2 0)) ∧ ∀ v ∈ vs, v.2 0 ∈ C
theorem gr_len {C : List Int32} {vs : List qkV} (h : qkGr C vs) : vs.length ≤ C.length := by
  have := nd_le (l := vs.map (fun v => v.2 0)) (C := C) (by
    rw [List.Nodup, List.pairwise_map]
    refine h.1.imp fun q z => ?_
    rw [z] at q
    exact Int32.lt_irrefl q) (fun a ha => by
    rw [List.mem_map] at ha
    obtain ⟨v, v1, v2⟩ := ha
    rw [← v2]
    exact h.2 v v1)
  rw [List.length_map] at this
  exact this
theorem gr_ins {C : List Int32} {vs : List qkV} {v : Int32} (hC : ∀ c ∈ C, kf_val c) (hv : v ∈ C) (h : qkGr C vs) : qkGr C (kf_gins vs v) := by
  unfold kf_gins
  split
  · exact h
  · rename_i q
    have hpl : vs.take (kf_gpl vs v) = vs.takeWhile (fun r => decide (¬ kf_rank v ≤ kf_rank (r.2 0))) := by
      unfold kf_gpl
      exact (List.prefix_iff_eq_take.mp (List.takeWhile_prefix _)).symm
    have hp : ∀ a ∈ vs.take (kf_gpl vs v), kf_rank (a.2 0) < kf_rank v := by
      intro a ha
      rw [hpl] at ha
      have := List.all_eq_true.mp List.all_takeWhile a ha
      exact Int32.not_le.mp (of_decide_eq_true this)
    have hd : ∀ a ∈ vs.drop (kf_gpl vs v), kf_rank v < kf_rank (a.2 0) := by
      intro a ha
      obtain ⟨i, hi⟩ := List.getElem?_of_mem ha
      rw [List.getElem?_drop] at hi
      have hlt : kf_gpl vs v < vs.length := by
        rw [List.getElem?_eq_some_iff] at hi
        obtain ⟨z, -⟩ := hi
        omega
      have hk : ¬ decide (¬ kf_rank v ≤ kf_rank (vs[kf_gpl vs v].2 0)) = true := by
        have e : vs.dropWhile (fun r => decide (¬ kf_rank v ≤ kf_rank (r.2 0))) = vs.drop (kf_gpl vs v) := (dw_drop vs).symm
        have := List.head?_dropWhile_not (fun r : qkV => decide (¬ kf_rank v ≤ kf_rank (r.2 0))) vs
        rw [e] at this
        rw [List.head?_drop, List.getElem?_eq_getElem hlt] at this
        simpa using this
      have hle : kf_rank v ≤ kf_rank (vs[kf_gpl vs v].2 0) := by simpa using hk
      rw [List.getElem?_eq_getElem hlt] at q
      have hne : ¬ vs[kf_gpl vs v].2 0 = v := by simpa using q
      have hlt2 : kf_rank v < kf_rank (vs[kf_gpl vs v].2 0) := Int32.lt_of_le_of_ne hle fun z => hne (rank_inj (hC _ (h.2 _ (List.getElem_mem hlt))) (hC _ hv) z.symm)
      by_cases hi0 : i = 0
      · subst hi0
        rw [Nat.add_zero, List.getElem?_eq_getElem hlt] at hi
        cases hi
        exact hlt2
      · rw [List.getElem?_eq_some_iff] at hi
        obtain ⟨z, z2⟩ := hi
        rw [← z2]
        exact Int32.lt_trans hlt2 (List.pairwise_iff_getElem.mp h.1 _ _ hlt z (by omega))
    have g0 : (kf_g0 v).2 0 = v := by
      unfold kf_g0
      dsimp only
      rw [upd_n (by decide), upd_n (by decide), upd_s]
    refine ⟨?_, fun u hu => ?_⟩
    · rw [List.pairwise_append]
      refine ⟨h.1.sublist (List.take_sublist _ _), List.pairwise_cons.mpr ⟨fun a ha => by rw [g0]; exact hd a ha, h.1.sublist (List.drop_sublist _ _)⟩, fun a ha b hb => ?_⟩
      rw [List.mem_cons] at hb
      rcases hb with rfl | hb
      · rw [g0]
        exact hp a ha
      · exact Int32.lt_trans (hp a ha) (hd b hb)
    · rw [List.mem_append, List.mem_cons] at hu
      rcases hu with q | rfl | q
      · exact h.2 u (List.mem_of_mem_take q)
      · rw [g0]; exact hv
      · exact h.2 u (List.mem_of_mem_drop q)
theorem gr_set {C : List Int32} {vs : List qkV} {i : Nat} {r r' : qkV} (hr : vs[i]? = some r) (e : r'.2 0 = r.2 0) (h : qkGr C vs) : qkGr C (vs.set i r') := by
  have hi : i < vs.length := by
    rw [List.getElem?_eq_some_iff] at hr
    exact hr.1
  have hg : ∀ j (hj : j < vs.length), ((vs.set i r')[j]'(by rw [List.length_set]; exact hj)).2 0 = vs[j].2 0 := by
    intro j hj
    rw [List.getElem_set]
    split
    · rename_i z
      subst z
      rw [List.getElem?_eq_getElem hi] at hr
      cases hr
      exact e
    · rfl
  refine ⟨?_, fun u hu => ?_⟩
  · rw [List.pairwise_iff_getElem]
    intro j k hj hk hjk
    rw [List.length_set] at hj hk
    rw [hg j hj, hg k hk]
    exact List.pairwise_iff_getElem.mp h.1 j k hj hk hjk
  · rcases List.mem_or_eq_of_mem_set hu with q | q
    · exact h.2 u q
    · rw [q, e]
      exact h.2 r (List.mem_of_getElem? hr)
theorem gr_grp {C : List Int32} {vs : List qkV} {v w : Int32} (hC : ∀ c ∈ C, kf_val c) (hv : v ∈ C) (h : qkGr C vs) : qkGr C (kf_grp vs v w) := by
  unfold kf_grp
  split
  · rename_i r hr
    refine gr_set hr ?_ (gr_ins hC hv h)
    unfold kf_gadd
    dsimp only
    rw [upd_n (by decide), upd_n (by decide)]
  · exact h
theorem foldl_prm {α β : Type} {f : β → α → β} {P : β → Prop} : ∀ {l : List α} {b : β}, (∀ b a, a ∈ l → P b → P (f b a)) → P b → P (l.foldl f b)
  | [], b, _, h => h
  | a :: t, b, hf, h => by
    rw [List.foldl_cons]
    exact foldl_prm (fun b a ha hb => hf b a (List.mem_cons_of_mem _ ha) hb) (hf b a List.mem_cons_self h)
theorem step_inv {A : qkA} {rss : Nat → List qkRow} {n : Nat} {P : List qkV → Prop} (ht : ∀ M vs, (∀ i, i < n → M i ∈ rss i) → P vs → P (kf_tell A M vs)) : ∀ {m s : Nat} {M : Nat → qkRow} {vs : List qkV}, s + m = n → (∀ i, i < s → M i ∈ rss i) → P vs → P (kf_step A rss m s M vs)
  | 0, s, M, vs, h1, h2, h3 => ht M vs (fun i hi => h2 i (by omega)) h3
  | m + 1, s, M, vs, h1, h2, h3 => by
    rw [kf_step]
    refine foldl_prm (P := P) (fun b a ha hb => ?_) h3
    split
    · refine step_inv ht (by omega) (fun i hi => ?_) hb
      by_cases e : i = s
      · subst e
        rw [qkU_s]
        exact ha
      · rw [qkU_n e]
        exact h2 i (by omega)
    · exact hb
theorem walk_len {A : qkA} {rss : Nat → List qkRow} {n lim : Nat} (hn : n ≤ 3) (hlim : aQ A 10 = nI lim) (hl : lim ≤ 40) (hr : ∀ s, s < n → qkRs (rss s)) (ho1 : 1 ≤ (aOut A).length) (ho : ∀ o ∈ aOut A, qkOo n o) : (kf_walk A rss n).length ≤ 40 := by
  unfold kf_walk
  by_cases hq : aQ A 11 = 0
  · refine step_inv (n := n) (P := fun vs => vs.length ≤ 40) (fun M vs _ h => ?_) (by omega) (fun i hi => absurd hi (Nat.not_lt_zero i)) (Nat.zero_le _)
    unfold kf_tell
    rw [if_pos hq, hlim, nI_clamp (by omega)]
    split
    · rw [List.length_append]
      show vs.length + 1 ≤ 40
      omega
    · exact h
  · have ho0 : (aOut A)[0]? = some (aOut A)[0] := List.getElem?_eq_getElem ho1
    obtain ⟨⟨a, a1, a2⟩, q, q1, q2⟩ := ho _ (List.getElem_mem ho1)
    have hC : ∀ c ∈ (rss a).map (fun r => r.2 q), kf_val c := by
      intro c hc
      rw [List.mem_map] at hc
      obtain ⟨r, r1, r2⟩ := hc
      rw [← r2]
      exact (hr a a1).2 r r1 q q1
    have := step_inv (A := A) (rss := rss) (n := n) (P := qkGr ((rss a).map (fun r => r.2 q))) (fun M vs hM h => by
      unfold kf_tell
      rw [if_neg hq]
      refine gr_grp hC ?_ h
      unfold kf_first kf_orow
      rw [ho0]
      show kf_oc M _ ∈ _
      unfold kf_oc
      rw [a2, q2, nI_clamp (by omega), nI_clamp (by omega)]
      exact List.mem_map.mpr ⟨M a, hM a a1, rfl⟩) (m := n) (s := 0) (M := fun _ => (0, fun _ => 0)) (vs := []) (by omega) (fun i hi => absurd hi (Nat.not_lt_zero i)) ⟨List.Pairwise.nil, fun v hv => absurd hv List.not_mem_nil⟩
    have h2 := gr_len this
    rw [List.length_map] at h2
    have := (hr a a1).1
    omega
