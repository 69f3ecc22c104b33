/-! SQ 13: a shipment on both sides; a scan -/
set_option maxRecDepth 100000
theorem att_f {A : qkA} {l k : Nat} {b d : Int32} {f : Nat → Int32} (h4 : k ≠ 4) (h5 : k ≠ 5) : (kf_attempt A l b d f).2.2 k = f k := by
  have hp : kf_paid f l k = f k := (upd_n h4).trans (upd_n h5)
  unfold kf_attempt
  by_cases c1 : kf_late (kf_wait A l) b d = true
  · rw [if_pos c1]
  rw [if_neg c1]
  by_cases c2 : aLn A l 6 ≤ 0
  · rw [if_pos c2]; exact hp
  · rw [if_neg c2]; exact hp
theorem req_f {l k : Nat} {b d : Int32} (h4 : k ≠ 4) (h5 : k ≠ 5) : ∀ (n : Nat) {A : qkA} {f : Nat → Int32}, (kf_req l b d n A f).2.2 k = f k := by
  intro n
  induction n with
  | zero => intro A f; rfl
  | succ n ih =>
    intro A f
    show (if (kf_attempt A l b d f).1 = 1 then kf_req l b d n (kf_attempt A l b d f).2.1 (kf_attempt A l b d f).2.2 else kf_attempt A l b d f).2.2 k = f k
    by_cases c : (kf_attempt A l b d f).1 = 1
    · rw [if_pos c, ih]
      exact att_f h4 h5
    · rw [if_neg c]
      exact att_f h4 h5
theorem a_s (a x : Int32) : a + x - a = x := by rw [Int32.add_comm, Int32.add_sub_cancel]
/-- cost, attempts and rows shipped of a question -/
def rF (f : Nat → Int32) (S : qm_S) : Prop := S.1 80 = f 4 ∧ S.1 81 = f 5 ∧ S.1 82 = f 6
/-- what a seat's shipment leaves as it is -/
def qF (i : Nat) (S S' : qm_S) : Prop := (∀ k, k ≠ 8 → k ≠ 39 → k ≠ 55 → k ≠ 62 → k ≠ 80 → k ≠ 81 → k ≠ 82 → S'.1 k = S.1 k) ∧ (∀ k, 52 ≤ k → k ≠ 57 → k ≠ 58 → k ≠ 59 → S'.2 k = S.2 k) ∧ (∀ j, j ≠ i → S'.2 57 j = S.2 57 j) ∧ ∀ q, (q < 12 * i ∨ 12 * i + 12 ≤ q) → S'.2 58 q = S.2 58 q ∧ ∀ c, c < 4 → S'.2 59 (4 * q + c) = S.2 59 (4 * q + c)
theorem qF.rf {i : Nat} {S : qm_S} : qF i S S := ⟨fun _ _ _ _ _ _ _ _ => rfl, fun _ _ _ _ _ => rfl, fun _ _ => rfl, fun _ _ => ⟨rfl, fun _ _ => rfl⟩⟩
theorem qF.tr {i : Nat} {S S' S'' : qm_S} (h : qF i S S') (k : qF i S' S'') : qF i S S'' := ⟨fun j a b c d e f g => (k.1 j a b c d e f g).trans (h.1 j a b c d e f g), fun j z a b c => (k.2.1 j z a b c).trans (h.2.1 j z a b c), fun j a => (k.2.2.1 j a).trans (h.2.2.1 j a), fun q a => ⟨(k.2.2.2 q a).1.trans (h.2.2.2 q a).1, fun c hc => ((k.2.2.2 q a).2 c hc).trans ((h.2.2.2 q a).2 c hc)⟩⟩
theorem tF.q {i : Nat} {S S' : qm_S} (h : tF S S') : qF i S S' := ⟨fun k a b c _ e f _ => h.1 k a b c e f, fun k z _ _ _ => h.2 k (by omega) (by omega) (by omega) (by omega), fun j _ => by rw [h.2 57 (by decide) (by decide) (by decide) (by omega)], fun q _ => ⟨by rw [h.2 58 (by decide) (by decide) (by decide) (by omega)], fun c _ => by rw [h.2 59 (by decide) (by decide) (by decide) (by omega)]⟩⟩
theorem rSeat.q {i j : Nat} {S S' : qm_S} {raw : List qkRow} (h : rSeat S j raw) (hf : qF i S S') (hne : j ≠ i) : rSeat S' j raw := by
  obtain ⟨h1, h2, h3⟩ := h
  refine ⟨(hf.2.2.1 j hne).trans h1, h2, fun k r hr => ?_⟩
  have hk := (List.getElem?_eq_some_iff.mp hr).1
  obtain ⟨z1, z2⟩ := hf.2.2.2 (12 * j + k) (by omega)
  exact (h3 k r hr).up z1 z2
theorem order_app {rows got : List qkRow} : kf_order (rows ++ got) = got.foldl kf_oins (kf_order rows) := by
  unfold kf_order
  rw [List.foldl_append]
theorem sel_tm {A A' : qkA} {src : Nat} {sent : List qkC} {col : Int32} {ks : List Int32} (h : qkTm A A') : kf_sel A' src sent col ks = kf_sel A src sent col ks := by
  unfold kf_sel
  rw [h.2.2.2.2.1]
theorem sent_tm {A A' : qkA} {n : Int32} {src : Nat} (h : qkTm A A') : kf_sent A' n src = kf_sent A n src := by
  unfold kf_sent kf_own
  rw [h.2.2.2.2.2.2.2.2.1]
theorem km_ship {A : qkA} {S : qm_S} {T M i src j0 j1 : Nat} {b d col : Int32} {ks : List Int32} {rows : List qkRow} {sv f : Nat → Int32} {jj : qm_S → Int32} {Kc : qm_S → qm_S → Prop} {K0 : qm_S → Prop} (h : qkB A S) (hi : qkI T M A) (hTM : T + 120 ≤ 2 ^ 20) (hs : (aSeat A)[i]? = some (nI src)) (h6 : src < 6) (hd : ¬ d = -1) (hb : S.1 52 = b) (hd' : S.1 54 = d) (hsp : S.1 55 = sv 9) (hf : rF f S) (hcol : col = -1 ∨ ((∃ q, q < 4 ∧ col = nI q) ∧ rKeys S ks ∧ j0 ≤ j1 ∧ j1 ≤ ks.length ∧ ks.length ≤ 12)) (hjj : ∀ S5 : qm_S, S5.1 63 = S.1 63 → jj S5 = nI j1) (hraw : rSeat S i (kf_order rows))
    (h12 : rows.length + ((kf_sel A src (kf_sent A (nI i) src) col ((ks.drop j0).take (j1 - j0))).take (kf_capn A src)).length ≤ 12)
    (hk0 : (kf_ship A src (kf_sent A (nI i) src) rows sv f b d col ((ks.drop j0).take (j1 - j0))).1 = 0 → ∀ S0 S' : qm_S, S0.1 63 = S.1 63 → qkB (kf_ship A src (kf_sent A (nI i) src) rows sv f b d col ((ks.drop j0).take (j1 - j0))).2.1 S' → qF i S S' → rSeat S' i (kf_order (kf_ship A src (kf_sent A (nI i) src) rows sv f b d col ((ks.drop j0).take (j1 - j0))).2.2.2.2) → rF (kf_ship A src (kf_sent A (nI i) src) rows sv f b d col ((ks.drop j0).take (j1 - j0))).2.2.1 S' → S'.1 55 = (kf_ship A src (kf_sent A (nI i) src) rows sv f b d col ((ks.drop j0).take (j1 - j0))).2.2.2.1 9 → S'.1 62 = b2 (decide (kf_capn A src < (kf_sel A src (kf_sent A (nI i) src) col ((ks.drop j0).take (j1 - j0))).length)) → Kc S0 S')
    (hk1 : ¬ (kf_ship A src (kf_sent A (nI i) src) rows sv f b d col ((ks.drop j0).take (j1 - j0))).1 = 0 → ∀ S' : qm_S, qkB (kf_ship A src (kf_sent A (nI i) src) rows sv f b d col ((ks.drop j0).take (j1 - j0))).2.1 S' → qF i S S' → rSeat S' i (kf_order (kf_ship A src (kf_sent A (nI i) src) rows sv f b d col ((ks.drop j0).take (j1 - j0))).2.2.2.2) → rF (kf_ship A src (kf_sent A (nI i) src) rows sv f b d col ((ks.drop j0).take (j1 - j0))).2.2.1 S' → S'.1 55 = (kf_ship A src (kf_sent A (nI i) src) rows sv f b d col ((ks.drop j0).take (j1 - j0))).2.2.2.1 9 → K0 S') : T_X8_requests (nI (src / 2)) S (fun r S5 => (¬ r = 0 → T_X8_comes (nI i) col (nI j0) (jj S5) S5 (Kc S5)) ∧ (r = 0 → K0 S5)) := by
  have hl3 : src / 2 < 3 := by omega
  have hcapA := (hi.2.1 (src / 2) hl3).2.2.1
  refine km_requests (b := b) (d := d) (f := f) hl3 h hi hTM hd hb hd' (fun S5 hB5 tf hp => ?_)
  obtain ⟨x, y, p4, p5, p80, p55, p81⟩ := hp
  have p6 : (kf_req (src / 2) b d 3 A f).2.2 6 = f 6 := req_f (by decide) (by decide) 3
  have hi5 : qkI (T + 120) M (kf_req (src / 2) b d 3 A f).2.1 := qkI.req hl3 3 T A f hi (by omega)
  have tm : qkTm A (kf_req (src / 2) b d 3 A f).2.1 := qkTm.req 3
  have q5 : qF i S S5 := tf.q
  have hraw5 : rSeat S5 i (kf_order rows) := hraw.eq (tf.2 57 (by decide) (by decide) (by decide) (by omega)) (tf.2 58 (by decide) (by decide) (by decide) (by omega)) (tf.2 59 (by decide) (by decide) (by decide) (by omega))
  have hsel := sel_tm (src := src) (sent := kf_sent A (nI i) src) (col := col) (ks := (ks.drop j0).take (j1 - j0)) tm
  have hsent := sent_tm (n := nI i) (src := src) tm
  obtain ⟨cap, hc12, hcap⟩ := hcapA
  have hcn : kf_capn A src = cap := by
    unfold kf_capn
    rw [hcap]
    exact nI_clamp (by omega)
  rw [hcn] at h12 hk0
  unfold kf_ship at hk0 hk1
  rw [hcn] at hk0 hk1
  generalize hR : kf_req (src / 2) b d 3 A f = R at hB5 p4 p5 p6 hi5 tm hk0 hk1 hsel hsent
  generalize hSel : kf_sel A src (kf_sent A (nI i) src) col ((ks.drop j0).take (j1 - j0)) = sel at h12 hk0 hk1 hsel
  have e9 : sv 9 + (R.2.2 4 - f 4) = sv 9 + x := by rw [p4, a_s]
  by_cases c : R.1 = 0
  · rw [if_pos c]
    have hk0 := hk0 c
    simp only [c, if_true] at hk0
    refine ⟨fun _ => ?_, fun z => absurd z (by decide)⟩
    rw [hjj S5 (tf.1 63 (by decide) (by decide) (by decide) (by decide) (by decide))]
    have hA5 : (aSeat R.2.1)[i]? = some (nI src) := by rw [tm.2.2.2.2.2.2.1]; exact hs
    have hcol5 : col = -1 ∨ ((∃ q, q < 4 ∧ col = nI q) ∧ rKeys S5 ks ∧ j0 ≤ j1 ∧ j1 ≤ ks.length ∧ ks.length ≤ 12) := by
      rcases hcol with z | ⟨z1, z2, z3⟩
      · exact Or.inl z
      · refine Or.inr ⟨z1, fun k x hx => ?_, z3⟩
        rw [tf.2 64 (by decide) (by decide) (by decide) (by omega)]
        exact z2 k x hx
    have hcap5 : aLn R.2.1 (src / 2) 4 = nI cap := by rw [tm.2.1 (src / 2) 4 (by decide) (by decide) (by decide)]; exact hcap
    refine km_comes (cap := cap) (raw := kf_order rows) hB5 hi5 hA5 h6 hcol5 hcap5 hc12 hraw5 ?_ (fun S7 g1 gF gR g62 g82 g80 g55 => ?_)
    · rw [hsent, hsel, order_len]
      exact h12
    · rw [hsent, hsel] at gR g62 g82 g80 g55
      refine hk0 S5 S7 (tf.1 63 (by decide) (by decide) (by decide) (by decide) (by decide)) ?_ (q5.tr ⟨fun k a b c d e f g => g1 k c d e g, fun k _ a b c => gF.1 k a b c, gF.2.1, gF.2.2⟩) ?_ ⟨?_, ?_, ?_⟩ ?_ g62
      · exact hB5.fr (fun k hk => g1 k (by omega) (by omega) (by omega) (by omega)) (fun k hk => gF.1 k (by omega) (by omega) (by omega))
      · rw [order_app]
        exact gR
      · rw [g80, p80, hf.1]
        show _ = R.2.2 4 + _
        rw [p4]
      · rw [g1 81 (by decide) (by decide) (by decide) (by decide), p81, hf.2.1]
        exact p5.symm
      · rw [g82, tf.1 82 (by decide) (by decide) (by decide) (by decide) (by decide), hf.2.2]
        show _ = R.2.2 6 + _
        rw [p6]
      · rw [g55, p55, hsp]
        show _ = sv 9 + (R.2.2 4 - f 4) + _
        rw [e9]
  · rw [if_neg c]
    have hk1 := hk1 c
    simp only [c, if_false] at hk1
    refine ⟨fun z => absurd rfl z, fun _ => ?_⟩
    refine hk1 S5 hB5 q5 hraw5 ⟨?_, ?_, ?_⟩ ?_
    · rw [p80, hf.1, p4]
    · rw [p81, hf.2.1, p5]
    · rw [tf.1 82 (by decide) (by decide) (by decide) (by decide) (by decide), hf.2.2, p6]
    · rw [p55, hsp]
      exact e9.symm
/-! a scan -/
theorem oins_last {l : List qkRow} {r : qkRow} (h : ∀ q ∈ l, q.1 ≤ r.1) : kf_oins l r = l ++ [r] := by
  unfold kf_oins
  have : kf_opl l r l.length = l.length := by
    cases hl : l.length with
    | zero => rfl
    | succ n =>
      have hg : l[n]? = some (l[n]'(by omega)) := List.getElem?_eq_getElem (by omega)
      rw [opl_s hg, if_neg]
      exact fun w => w (h _ (List.getElem_mem (by omega)))
  rw [this, List.take_length, List.drop_length]
theorem order_asc : ∀ {l raw : List qkRow}, (raw ++ l).Pairwise (fun a b => a.1 < b.1) → l.foldl kf_oins raw = raw ++ l := by
  intro l
  induction l with
  | nil => intro raw _; simp
  | cons r l ih =>
    intro raw h
    rw [List.foldl_cons, oins_last, ih]
    · simp
    · simpa using h
    · intro q hq
      rw [List.pairwise_append] at h
      exact Int32.le_of_lt (h.2.2 q hq r (List.mem_cons_self ..))
theorem sel_asc {A : qkA} {src n : Nat} {sent : List qkC} {col : Int32} {ks : List Int32} (h : qkAsc (aRow A src)) : kf_order ((kf_sel A src sent col ks).take n) = (kf_sel A src sent col ks).take n := by
  unfold kf_order
  rw [order_asc]
  · simp
  · rw [List.nil_append]
    exact h.sublist ((List.take_sublist _ _).trans List.filter_sublist)
theorem km_scans {A : qkA} {S : qm_S} {T M i src : Nat} {b d : Int32} {sv f : Nat → Int32} {K : Int32 → qm_S → Prop} (h : qkB A S) (hi : qkI T M A) (hTM : T + 120 ≤ 2 ^ 20 ∧ M ≤ 2 ^ 20) (hs : (aSeat A)[i]? = some (nI src)) (h6 : src < 6) (hd : ¬ d = -1) (hb : S.1 52 = b) (hd' : S.1 54 = d) (hsp : S.1 55 = sv 9) (hf : rF f S)
    (hk : ∀ S' : qm_S, qkB (kf_scan A src (kf_sent A (nI i) src) sv f b d).1 S' → qF i S S' → rSeat S' i (kf_scan A src (kf_sent A (nI i) src) sv f b d).2.2.2 → rF (kf_scan A src (kf_sent A (nI i) src) sv f b d).2.1 S' → S'.1 55 = (kf_scan A src (kf_sent A (nI i) src) sv f b d).2.2.1 9 → ((kf_scan A src (kf_sent A (nI i) src) sv f b d).2.2.1 6 = 0 ∨ (kf_scan A src (kf_sent A (nI i) src) sv f b d).2.2.1 6 = 1) → K ((kf_scan A src (kf_sent A (nI i) src) sv f b d).2.2.1 6) S') : T_X8_scans (nI i) S K := by
  have hil := (List.getElem?_eq_some_iff.mp hs).1
  have h3 := hi.2.2.2.1.1.1
  have h23 := h.2.2.2.2.1.1.2 i _ hs
  have hrl := hi.1.len src h6
  have hasc := (hi.1 src h6).2.1
  unfold T_X8_scans
  rw [nI_clamp (n := i) (by omega), h23, fm_half h6]
  refine ⟨pk_in i 3 (by omega), pk_in i 3 (by omega), ?_⟩
  have hks : (([] : List Int32).drop 0).take (0 - 0) = [] := rfl
  have hB0 : qkB A (S.1, qm_uA S.2 57 (upd (S.2 57) i 0)) := h.fr (fun _ _ => rfl) (fun k hk => un2 (by omega))
  have qF0 : qF i S (S.1, qm_uA S.2 57 (upd (S.2 57) i 0)) := ⟨fun _ _ _ _ _ _ _ _ => rfl, fun k _ a _ _ => un2 a, fun j hj => upd_n hj, fun _ _ => ⟨rfl, fun _ _ => rfl⟩⟩
  have hlen : ((kf_sel A src (kf_sent A (nI i) src) (-1) []).take (kf_capn A src)).length ≤ 12 := Nat.le_trans (Nat.le_trans (List.length_take_le' _ _) sel_len) hrl
  have tm : qkTm A (kf_req (src / 2) b d 3 A f).2.1 := qkTm.req 3
  have hi5 : qkI (T + 120) M (kf_req (src / 2) b d 3 A f).2.1 := qkI.req (by omega) 3 T A f hi (by omega)
  unfold kf_scan at hk
  refine km_ship (A := A) (S := (S.1, qm_uA S.2 57 (upd (S.2 57) i 0))) (T := T) (M := M) (src := src) (j0 := 0) (j1 := 0) (b := b) (d := d) (col := -1) (ks := []) (rows := []) (sv := upd sv 6 0) (f := f) (jj := fun _ => 0) hB0 hi hTM.1 hs h6 hd hb hd' hsp hf (Or.inl rfl) (fun _ _ => rfl) ⟨?_, Nat.zero_le _, fun k r hr => by simp [kf_order] at hr⟩ (by rw [hks]; simpa using hlen) (fun c _ S7 _ hB7 q7 r7 f7 s7 c7 => ?_) (fun c S5 hB5 q5 r5 f5 s5 => ?_)
  · show upd (S.2 57) i 0 i = _
    rw [upd_s]
    rfl
  · rw [hks] at c hB7 r7 f7 s7 c7
    have q7 := qF0.tr q7
    rw [if_pos c] at hk
    -- whether it was cut
    have e6 : (kf_ship A src (kf_sent A (nI i) src) [] (upd sv 6 0) f b d (-1) []).2.2.2.1 6 = S7.1 62 := by
      rw [c7]
      have c' : (kf_req (src / 2) b d 3 A f).1 = 0 := c
      unfold kf_ship
      simp only [c', if_true]
      show (if kf_capn A src < _ then (1 : Int32) else 0) = _
      by_cases w : kf_capn A src < (kf_sel A src (kf_sent A (nI i) src) (-1) []).length
      · rw [if_pos w, b2_t (decide_eq_true w)]
      · rw [if_neg w, b2_f (decide_eq_false w)]
    have erows : (kf_ship A src (kf_sent A (nI i) src) [] (upd sv 6 0) f b d (-1) []).2.2.2.2 = (kf_sel A src (kf_sent A (nI i) src) (-1) []).take (kf_capn A src) := by
      have c' : (kf_req (src / 2) b d 3 A f).1 = 0 := c
      unfold kf_ship
      simp only [c', if_true, List.nil_append]
    have eA : (kf_ship A src (kf_sent A (nI i) src) [] (upd sv 6 0) f b d (-1) []).2.1 = (kf_req (src / 2) b d 3 A f).2.1 := rfl
    rw [erows, sel_asc hasc] at r7
    rw [← erows] at r7
    generalize hSH : kf_ship A src (kf_sent A (nI i) src) [] (upd sv 6 0) f b d (-1) [] = SH at hk c hB7 r7 f7 s7 e6 eA
    have hB7' := hB7
    rw [eA] at hB7'
    have eA' := eA
    refine ⟨fun z => ⟨by rw [c7]; exact b2_z, ?_⟩, fun z => ?_⟩
    · rw [if_neg (by rw [e6]; exact z)] at hk
      have := hk S7 hB7 q7 r7 f7 s7 (by rw [e6, c7]; exact b2_z)
      rw [e6] at this
      exact this
    · rw [if_pos (e6.trans z)] at hk
      generalize hA' : (kf_req (src / 2) b d 3 A f).2.1 = A' at tm hi5 eA hB7'
      have hs' : (aSeat A')[i]? = some (nI src) := by rw [tm.2.2.2.2.2.2.1]; exact hs
      have hsent := sent_tm (n := nI i) (src := src) tm
      refine km_remembers (T := T + 120) (M := M) hB7' hi5 ⟨by omega, hTM.2⟩ hs' h6 r7 (fun S10 f1 f2 hc => ?_)
      have b := hB7'
      obtain ⟨bT, bL, bR, bS, bD, bE, bB⟩ := b
      have bD10 : cD A' S10 := bD.fr (fun k _ _ => f1 k (by omega)) (fun k _ _ => f2 k (by omega))
      refine km_manySent bD10 hi5.2.2.2.1 hs' h6 ?_
      have x62 : S10.1 62 = 0 := (f1 62 (by decide)).trans z
      have x23 : S10.2 23 i = nI src := bD10.1.2 i _ hs'
      have x57 : S10.2 57 i = nI SH.2.2.2.2.length := by rw [f2 57 (by omega)]; exact r7.1
      rw [x23, nI_clamp (n := src) (by omega), x62, hsent, x57]
      refine ⟨⟨fun _ => pk_in src 6 h6, fun _ => trivial⟩, pk_in src 6 h6, Or.inl rfl, ?_⟩
      have hz : (nI (kf_sent A (nI i) src).length = 0) ↔ (kf_sent A (nI i) src).length = 0 := nI_eq (b := 0) (by
        have : (kf_sent A (nI i) src).length ≤ 4 := by
          rw [sent_eq]
          exact Nat.le_trans (List.length_filter_le _ _) hi.2.2.2.1.2.2.1.1
        omega) (by decide)
      have e0 := e6.trans z
      dsimp only at hk
      rw [e0] at hk
      rw [eA] at hk
      refine hk _ ⟨⟨(f1 6 (by decide)).trans bT.1, (f1 7 (by decide)).trans bT.2.1, (f1 8 (by decide)).trans bT.2.2.1, (f1 37 (by decide)).trans bT.2.2.2.1, (f1 38 (by decide)).trans bT.2.2.2.2⟩, bL.fr fun k _ _ => (un2 (by omega)).trans (f2 k (by omega)), bR.fr ((un2 (by decide)).trans (f2 1 (by omega))) ((un2 (by decide)).trans (f2 2 (by omega))) ((un2 (by decide)).trans (f2 3 (by omega))), fun q hq => ?_, bD10.fr (fun _ _ _ => rfl) (fun k _ _ => un2 (by omega)), ?_, bB.fr (f1 85 (by decide)) (fun k _ _ => (un2 (by omega)).trans (f2 k (by omega)))⟩ (q7.tr ⟨fun k _ a _ _ _ _ _ => f1 k a, fun k a _ _ _ => (un2 (by omega)).trans (f2 k (by omega)), fun j hj => ?_, fun p hp => ⟨?_, fun c hc => ?_⟩⟩) ?_ ?_ ?_ (Or.inl rfl)
      · obtain ⟨s1, s2, s3, s4⟩ := bS q hq
        have y4 : S10.2 4 = S7.2 4 := f2 4 (by omega)
        have y5 : S10.2 5 = S7.2 5 := f2 5 (by omega)
        have y20 : S10.2 20 = S7.2 20 := f2 20 (by omega)
        have y21 : S10.2 21 = S7.2 21 := f2 21 (by omega)
        by_cases e : q = src
        · subst e
          have hw : aSr (kf_enter A' q (kf_sent A (nI i) q) SH.2.2.2.2) q = upd (aSr A' q) 5 (if (kf_sent A (nI i) q).length = 0 then nI SH.2.2.2.2.length else aSr A' q 5) := qkU_s
          rw [hw]
          refine ⟨fun w => ?_, ?_, ?_, ?_⟩
          · rw [un2 (show (4 : Nat) ≠ 21 by decide), y4, upd_n (show (4 : Nat) ≠ 5 by decide)]
            exact s1 w
          · rw [un2 (show (5 : Nat) ≠ 21 by decide), y5]
            exact s2
          · rw [un2 (show (20 : Nat) ≠ 21 by decide), y20]
            exact s3
          · rw [us2, upd_s, upd_s, y21, s4]
            by_cases w : (kf_sent A (nI i) q).length = 0
            · rw [if_pos w, if_pos (hz.mpr w)]
            · rw [if_neg w, if_neg (fun w' => w (hz.mp w'))]
        · have hw : aSr (kf_enter A' src (kf_sent A (nI i) src) SH.2.2.2.2) q = aSr A' q := qkU_n e
          rw [hw, un2 (show (4 : Nat) ≠ 21 by decide), y4, un2 (show (5 : Nat) ≠ 21 by decide), y5, un2 (show (20 : Nat) ≠ 21 by decide), y20, us2, upd_n e, y21]
          exact ⟨s1, s2, s3, s4⟩
      · rw [hsent] at hc
        exact cE.fr (A := sCache A' (kf_drop1 (aCache A') ++ [(src, kf_sent A (nI i) src, SH.2.2.2.2, aQ A' 15, aQ A' 14)])) hc rfl (fun k _ _ => un2 (by omega))
      · rw [un2 (show (57 : Nat) ≠ 21 by decide), f2 57 (by omega)]
      · rw [un2 (show (58 : Nat) ≠ 21 by decide), f2 58 (by omega)]
      · rw [un2 (show (59 : Nat) ≠ 21 by decide), f2 59 (by omega)]
      · exact r7.eq ((un2 (by decide)).trans (f2 57 (by omega))) ((un2 (by decide)).trans (f2 58 (by omega))) ((un2 (by decide)).trans (f2 59 (by omega)))
      · exact ⟨(f1 80 (by decide)).trans f7.1, (f1 81 (by decide)).trans f7.2.1, (f1 82 (by decide)).trans f7.2.2⟩
      · exact (f1 55 (by decide)).trans s7
  · rw [hks] at c hB5 r5 f5 s5
    have q5 := qF0.tr q5
    rw [if_neg c] at hk
    have erows : (kf_ship A src (kf_sent A (nI i) src) [] (upd sv 6 0) f b d (-1) []).2.2.2.2 = [] := by
      have c' : ¬ (kf_req (src / 2) b d 3 A f).1 = 0 := c
      unfold kf_ship
      simp only [c', if_false]
    rw [erows] at r5
    rw [erows] at hk
    exact hk S5 hB5 q5 r5 f5 s5 (Or.inr rfl)
