/-! SQ 8: what is forbidden; the draft; the latest answer; the bundle's steps -/
set_option maxRecDepth 100000
theorem fb_tab : ∀ x0, x0 < 2 → ∀ x1, x1 < 2 → ∀ x2, x2 < 2 → ∀ t, t < 3 → ((if ((nI (x0 + 2 * x1 + 4 * x2) >>> (nI t &&& 31)) &&& 1) = 1 then (1 : Int32) else 0) = nI (if t = 0 then x0 else if t = 1 then x1 else x2)) ∧ (nI (x0 + 2 * x1 + 4 * x2) &&& ((1 <<< (nI t &&& 31)) ^^^ (-1)) = nI ((if t = 0 then 0 else x0) + 2 * (if t = 1 then 0 else x1) + 4 * (if t = 2 then 0 else x2))) ∧ (nI (x0 + 2 * x1 + 4 * x2) ||| (1 <<< (nI t &&& 31)) = nI ((if t = 0 then 1 else x0) + 2 * (if t = 1 then 1 else x1) + 4 * (if t = 2 then 1 else x2))) := by decide +kernel
theorem bit_of {x : Int32} (h : x = 0 ∨ x = 1) : ∃ n, n < 2 ∧ x = nI n := by
  rcases h with h | h
  · exact ⟨0, by decide, h⟩
  · exact ⟨1, by decide, h⟩
theorem fb_eq {f : Nat → Int32} {a b c : Nat} (h0 : f 0 = nI a) (h1 : f 1 = nI b) (h2 : f 2 = nI c) (ha : a < 2) (hb : b < 2) (hc : c < 2) : kf_fb f = nI (a + 2 * b + 4 * c) := by
  unfold kf_fb
  rw [h0, h1, h2, nI_clamp (n := a) (by omega), nI_clamp (n := b) (by omega), nI_clamp (n := c) (by omega)]
theorem fm_forb {A : qkA} {S : qm_S} {s t : Nat} (hs : s < 6) (ht : t < 3) (hS : S.2 20 s = kf_fb (aFb A s)) (hi : iF A) : f_X8_isForbidden (nI s) (nI t) S = aFb A s t := by
  obtain ⟨a, ha, ea⟩ := bit_of (hi s hs 0 (by decide))
  obtain ⟨b, hb, eb⟩ := bit_of (hi s hs 1 (by decide))
  obtain ⟨c, hc, ec⟩ := bit_of (hi s hs 2 (by decide))
  unfold f_X8_isForbidden
  rw [nI_clamp (n := s) (by omega), hS, fb_eq ea eb ec ha hb hc, (fb_tab a ha b hb c hc t ht).1]
  have : t = 0 ∨ t = 1 ∨ t = 2 := by omega
  rcases this with rfl | rfl | rfl
  · exact ea.symm
  · exact eb.symm
  · exact ec.symm
theorem km_forbid {A : qkA} {v : qkAns} {S : qm_S} {a t d : Int32} {K : Int32 → qm_S → Prop} (hd : d = 0 ∨ d = 1) (h : cC A v S) (hi : iF A) (hk : kM (kf_forbid A a t d) v K) : T_X8_forbid a t d S K := by
  unfold T_X8_forbid
  rw [fm_src, fm_store]
  unfold kf_forbid at hk
  have bad : kM (1, 0, A) v K → ∀ P : Prop, ((1 : Int32) ≤ 0 → P) ∧ (¬ (1 : Int32) ≤ 0 → K 0 (upd S.1 0 1, S.2)) := fun hk P => ⟨fun z => absurd z (by decide), fun _ => hk.bad (by decide) h⟩
  by_cases c1 : a < 0 ∨ ¬ a < 6
  · rw [if_pos c1] at hk
    rw [if_pos (d0 (fun z => z c1))]
    exact bad hk _
  rw [if_neg c1] at hk
  rw [if_neg (d1 c1)]
  by_cases c2 : t < 0 ∨ ¬ t < 3
  · rw [if_pos c2] at hk
    rw [if_pos (d0 (fun z => z c2))]
    exact bad hk _
  rw [if_neg c2] at hk
  rw [if_neg (d1 c2)]
  obtain ⟨s, hs, rfl⟩ := src_of c1
  obtain ⟨i, hi3, rfl⟩ := sto_of c2
  rw [nI_clamp (n := s) (by omega)] at hk ⊢
  rw [nI_clamp (n := i) (by omega)] at hk
  obtain ⟨hT, hL, hR, hS, hD, hE, hB, hA⟩ := h
  have h20 := (hS s hs).2.2.1
  refine ⟨fun _ => ⟨pk_in s 6 hs, ⟨fun _ => pk_in s 6 hs, fun _ => pk_in s 6 hs⟩, pk_in s 6 hs, hk _ (_, _) rfl (fun _ => fm_forb (S := (upd S.1 0 0, S.2)) hs hi3 h20 hi) ?_⟩, fun z => absurd (Int32.le_refl 0) z⟩
  refine ⟨hT, hL, hR, fun q hq => ?_, hD, hE, hB, hA⟩
  obtain ⟨s1, s2, s3, s4⟩ := hS q hq
  refine ⟨s1, s2, ?_, s4⟩
  by_cases e : q = s
  · subst e
    have hw : aFb (sFb A (qkU (aFb A) q (upd (aFb A q) i d))) q = upd (aFb A q) i d := qkU_s
    rw [hw]
    refine Eq.trans upd_s ?_
    obtain ⟨a, ha, ea⟩ := bit_of (hi q hq 0 (by decide))
    obtain ⟨b, hb, eb⟩ := bit_of (hi q hq 1 (by decide))
    obtain ⟨c, hc, ec⟩ := bit_of (hi q hq 2 (by decide))
    have ht := fb_tab a ha b hb c hc i hi3
    rw [h20, fb_eq ea eb ec ha hb hc]
    have hi3' : i = 0 ∨ i = 1 ∨ i = 2 := by omega
    rcases hd with rfl | rfl
    · rw [if_pos rfl, ht.2.1]
      rcases hi3' with rfl | rfl | rfl
      · exact (fb_eq (f := upd (aFb A q) 0 0) upd_s ((upd_n (by decide)).trans eb) ((upd_n (by decide)).trans ec) (by decide) hb hc).symm
      · exact (fb_eq (f := upd (aFb A q) 1 0) ((upd_n (by decide)).trans ea) upd_s ((upd_n (by decide)).trans ec) ha (by decide) hc).symm
      · exact (fb_eq (f := upd (aFb A q) 2 0) ((upd_n (by decide)).trans ea) ((upd_n (by decide)).trans eb) upd_s ha hb (by decide)).symm
    · rw [if_neg (by decide), ht.2.2]
      rcases hi3' with rfl | rfl | rfl
      · exact (fb_eq (f := upd (aFb A q) 0 1) upd_s ((upd_n (by decide)).trans eb) ((upd_n (by decide)).trans ec) (by decide) hb hc).symm
      · exact (fb_eq (f := upd (aFb A q) 1 1) ((upd_n (by decide)).trans ea) upd_s ((upd_n (by decide)).trans ec) ha (by decide) hc).symm
      · exact (fb_eq (f := upd (aFb A q) 2 1) ((upd_n (by decide)).trans ea) ((upd_n (by decide)).trans eb) upd_s ha hb (by decide)).symm
  · have hw : aFb (sFb A (qkU (aFb A) s (upd (aFb A s) i d))) q = aFb A q := qkU_n e
    rw [hw]
    exact Eq.trans (upd_n e) s3
/-! the draft -/
theorem q_3 {n : Nat} (h : n = 3) : nI n = (3 : Int32) := by rw [h]; rfl
theorem q_4 {n : Nat} (h : n = 4) : nI n = (4 : Int32) := by rw [h]; rfl
theorem nq_3 {n : Nat} (h : n < 2 ^ 31) (z : nI n = (3 : Int32)) : n = 3 := (nI_eq (b := 3) h (by decide)).mp z
theorem nq_4 {n : Nat} (h : n < 2 ^ 31) (z : nI n = (4 : Int32)) : n = 4 := (nI_eq (b := 4) h (by decide)).mp z
theorem app_at {α : Type} {l : List α} {x y : α} {k : Nat} (h : (l ++ [x])[k]? = some y) : (k ≠ l.length ∧ l[k]? = some y) ∨ (k = l.length ∧ y = x) := by
  by_cases c : k < l.length
  · rw [List.getElem?_append_left c] at h
    exact Or.inl ⟨by omega, h⟩
  · rw [List.getElem?_append_right (by omega)] at h
    have := (List.getElem?_eq_some_iff.mp h).1
    simp at this
    have e : k = l.length := by omega
    rw [e, Nat.sub_self] at h
    simp at h
    exact Or.inr ⟨e, h.symm⟩
theorem km_seat {A : qkA} {v : qkAns} {S : qm_S} {a : Int32} {K : Int32 → qm_S → Prop} (h : cC A v S) (hi : iD A) (hk : kM (kf_seat A a) v K) : T_X8_seat a S K := by
  unfold T_X8_seat
  have hn := h.2.2.2.2.1.1.1
  have h3 := hi.1.1
  rw [fm_src, hn]
  unfold kf_seat at hk
  have bad : ∀ e : Int32, ¬ e ≤ 0 → kM (e, 0, A) v K → ∀ P : Prop, (e ≤ 0 → P) ∧ (¬ e ≤ 0 → K 0 (upd S.1 0 e, S.2)) := fun e he hk P => ⟨fun z => absurd z he, fun _ => hk.bad (fun z => he (by rw [z]; exact Int32.le_refl 0)) h⟩
  by_cases c1 : a < 0 ∨ ¬ a < 6
  · rw [if_pos c1] at hk
    rw [if_pos (d0 (fun z => z c1))]
    exact bad 1 (by decide) hk _
  rw [if_neg c1] at hk
  rw [if_neg (d1 c1)]
  by_cases c2 : 3 ≤ (aSeat A).length
  · rw [if_pos c2] at hk
    rw [if_pos (q_3 (by omega))]
    exact bad 2 (by decide) hk _
  rw [if_neg c2] at hk
  rw [if_neg (fun z => c2 (by have := nq_3 (by omega) z; omega))]
  obtain ⟨hT, hL, hR, hS, hD, hE, hB, hA⟩ := h
  rw [nI_clamp (n := (aSeat A).length) (by omega)]
  refine ⟨fun _ => ⟨ik 3 (by omega), hk _ (_, _) rfl (fun _ => ?_) ?_⟩, fun z => absurd (Int32.le_refl 0) z⟩
  · rw [nI_1, nI_pred]
  · refine ⟨hT, hL, hR, hS, ⟨⟨?_, fun k w hw => ?_⟩, hD.2⟩, hE, hB, hA⟩
    · show nI (aSeat A).length + 1 = nI (aSeat A ++ [a]).length
      rw [nI_1, List.length_append]
      rfl
    · rcases app_at hw with ⟨hne, hw⟩ | ⟨e, rfl⟩
      · exact Eq.trans (upd_n hne) (hD.1.2 k w hw)
      · rw [e]
        exact upd_s
theorem lt_pred {n : Nat} (hn : n < 2 ^ 20) {a : Int32} : nI n - 1 < a ↔ ¬ a < nI n := by
  rw [Int32.lt_iff_toInt_lt, Int32.lt_iff_toInt_lt]
  have e := pk_sub_toInt (a := n) (b := 1) (by omega) (by decide)
  have e1 : (nI n - 1).toInt = (n : Int) - 1 := e
  rw [e1, nI_toInt (by omega)]
  omega
theorem fm_seat {A : qkA} {S : qm_S} {a : Int32} (hn : S.1 22 = nI (aSeat A).length) (h3 : (aSeat A).length ≤ 3) : f_X8_isSeat a S = b2 (decide (¬ (a < 0 ∨ ¬ a < nI (aSeat A).length))) := by
  unfold f_X8_isSeat
  rw [fm_in, hn]
  congr 1
  rw [decide_eq_decide, lt_pred (by omega), not_or]
theorem sno_of {A : qkA} {k : Nat} (hi : iD A) (hk : k < (aSeat A).length) : ∃ s, s < 6 ∧ (aSeat A)[k]? = some (nI s) ∧ kf_src A k = s ∧ kf_sno A k = s := by
  have hg : (aSeat A)[k]? = some (aSeat A)[k] := List.getElem?_eq_getElem hk
  obtain ⟨s, hs, e⟩ := hi.1.2 k _ hg
  rw [e] at hg
  refine ⟨s, hs, hg, ?_, ?_⟩
  · unfold kf_src
    rw [hg]
    exact nI_clamp (by omega)
  · unfold kf_sno
    rw [hg]
    exact nI_clamp (by omega)
theorem fm_sc {A : qkA} {S : qm_S} {a b : Int32} (hD : cD A S) (hi : iD A) : f_X8_isSeatColumn a b S = b2 (!kf_kc A a b) ∧ p_X8_isSeatColumn a b S := by
  have h3 := hi.1.1
  unfold f_X8_isSeatColumn p_X8_isSeatColumn kf_kc
  rw [fm_seat hD.1.1 h3]
  by_cases c1 : a < 0 ∨ ¬ a < nI (aSeat A).length
  · rw [if_pos (d0 (fun z => z c1))]
    refine ⟨?_, fun _ => trivial, fun z => absurd (d0 (fun z => z c1)) z⟩
    rw [decide_eq_true (Or.inl c1)]
    rfl
  · rw [if_neg (d1 c1)]
    have c1' := c1
    rw [not_or, Classical.not_not] at c1'
    obtain ⟨k, hk, rfl⟩ := ix_of _ (by omega) c1'.1 c1'.2
    obtain ⟨s, hs, hg, e1, _⟩ := sno_of hi hk
    rw [nI_clamp (n := k) (by omega), e1, hD.1.2 k _ hg, fm_col hs]
    refine ⟨?_, fun z => absurd z (d1 c1), fun _ => pk_in k 3 (by omega)⟩
    by_cases c2 : b < 0 ∨ ¬ b < kf_cols (s / 2)
    · rw [if_pos (d0 (fun z => z c2)), decide_eq_true (Or.inr c2)]
      rfl
    · rw [if_neg (d1 c2), decide_eq_false (by rintro (z | z); exact c1 z; exact c2 z)]
      rfl
theorem km_link {A : qkA} {v : qkAns} {S : qm_S} {a b c d : Int32} {K : Int32 → qm_S → Prop} (h : cC A v S) (hi : iD A) (hk : kM (kf_link A a b c d) v K) : T_X8_link a b c d S K := by
  unfold T_X8_link
  obtain ⟨hT, hL, hR, hS, hD, hE, hB, hA⟩ := id h
  obtain ⟨e1, p1⟩ := fm_sc (a := a) (b := b) hD hi
  obtain ⟨e2, p2⟩ := fm_sc (a := c) (b := d) hD hi
  have h3 := hi.2.1.1
  rw [e1, e2, hD.2.1.1]
  unfold kf_link at hk
  have bad : ∀ e : Int32, ¬ e ≤ 0 → kM (e, 0, A) v K → ∀ P : Prop, (e ≤ 0 → P) ∧ (¬ e ≤ 0 → K 0 (upd S.1 0 e, S.2)) := fun e he hk P => ⟨fun z => absurd z he, fun _ => hk.bad (fun z => he (by rw [z]; exact Int32.le_refl 0)) h⟩
  refine ⟨p1, ⟨fun _ => trivial, fun _ => p2⟩, ?_⟩
  by_cases c1 : kf_kc A a b = true
  · rw [if_pos c1] at hk
    rw [if_pos (b2_eq0.mpr (by rw [c1]; rfl))]
    exact bad 1 (by decide) hk _
  rw [if_neg c1] at hk
  rw [if_neg (b2_n0.mpr (by simpa using c1))]
  by_cases c2 : kf_kc A c d = true
  · rw [if_pos c2] at hk
    rw [if_pos (b2_eq0.mpr (by rw [c2]; rfl))]
    exact bad 1 (by decide) hk _
  rw [if_neg c2] at hk
  rw [if_neg (b2_n0.mpr (by simpa using c2))]
  by_cases c3 : c ≤ a
  · rw [if_pos c3] at hk
    rw [if_neg (Int32.not_lt.mpr c3)]
    exact bad 2 (by decide) hk _
  rw [if_neg c3] at hk
  rw [if_pos (Int32.not_le.mp c3)]
  by_cases c4 : 3 ≤ (aLink A).length
  · rw [if_pos c4] at hk
    rw [if_pos (q_3 (by omega))]
    exact bad 3 (by decide) hk _
  rw [if_neg c4] at hk
  rw [if_neg (fun z => c4 (by have := nq_3 (by omega) z; omega)), nI_clamp (n := (aLink A).length) (by omega)]
  refine ⟨fun _ => ⟨ik 3 (by omega), ik 3 (by omega), ik 3 (by omega), ik 3 (by omega), hk _ (_, _) rfl (fun _ => nI_1 _) ?_⟩, fun z => absurd (Int32.le_refl 0) z⟩
  refine ⟨hT, hL, hR, hS, ⟨hD.1, ⟨?_, fun k w hw => ?_⟩, hD.2.2⟩, hE, hB, hA⟩
  · show nI (aLink A).length + 1 = nI (aLink A ++ [(a, b, c, d)]).length
    rw [nI_1, List.length_append]
    rfl
  · rcases app_at hw with ⟨hne, hw⟩ | ⟨e, rfl⟩
    · obtain ⟨y1, y2, y3, y4⟩ := hD.2.1.2 k w hw
      exact ⟨Eq.trans (upd_n hne) y1, Eq.trans (upd_n hne) y2, Eq.trans (upd_n hne) y3, Eq.trans (upd_n hne) y4⟩
    · rw [e]
      exact ⟨upd_s, upd_s, upd_s, upd_s⟩
theorem km_where {A : qkA} {v : qkAns} {S : qm_S} {a b k n : Int32} {K : Int32 → qm_S → Prop} (h : cC A v S) (hi : iD A) (hk : kM (kf_where A a b k n) v K) : T_X8_where a b k n S K := by
  unfold T_X8_where
  obtain ⟨hT, hL, hR, hS, hD, hE, hB, hA⟩ := id h
  obtain ⟨e1, p1⟩ := fm_sc (a := a) (b := b) hD hi
  have h4 := hi.2.2.1.1
  rw [e1, fm_in, fm_num, hD.2.2.1.1]
  unfold kf_where at hk
  have bad : ∀ e : Int32, ¬ e ≤ 0 → kM (e, 0, A) v K → ∀ P : Prop, (e ≤ 0 → P) ∧ (¬ e ≤ 0 → K 0 (upd S.1 0 e, S.2)) := fun e he hk P => ⟨fun z => absurd z he, fun _ => hk.bad (fun z => he (by rw [z]; exact Int32.le_refl 0)) h⟩
  refine ⟨p1, ?_⟩
  by_cases c1 : kf_kc A a b = true
  · rw [if_pos c1] at hk
    rw [if_pos (b2_eq0.mpr (by rw [c1]; rfl))]
    exact bad 1 (by decide) hk _
  rw [if_neg c1] at hk
  rw [if_neg (b2_n0.mpr (by simpa using c1))]
  by_cases c2 : k < 0 ∨ 4 < k
  · rw [if_pos c2] at hk
    rw [if_pos (d0 (fun z => c2.elim z.1 z.2)), if_pos rfl]
    exact bad 2 (by decide) hk _
  rw [if_neg c2] at hk
  rw [if_neg (d1 (not_or.mp c2))]
  have h23 : (2 : Int32) < k ↔ 3 ≤ k := by
    rw [Int32.lt_iff_toInt_lt, Int32.le_iff_toInt_le]
    have e5 : (2 : Int32).toInt = 2 := by decide
    have e6 : (3 : Int32).toInt = 3 := by decide
    rw [e5, e6]
    omega
  have hg : (if 3 ≤ k then if n = 0 then (1 : Int32) else (0 : Int32) else if b2 (kf_num n) = 0 then (0 : Int32) else (1 : Int32)) = b2 (if 2 < k then decide (n = 0) else kf_num n) := by
    by_cases z : 2 < k
    · rw [if_pos (h23.mp z), if_pos z]
      by_cases z' : n = 0 <;> simp [z', b2]
    · rw [if_neg (fun q => z (h23.mpr q)), if_neg z]
      cases kf_num n <;> simp [b2]
  rw [hg]
  by_cases c3 : (if 2 < k then decide (n = 0) else kf_num n) = false
  · rw [if_pos c3] at hk
    rw [if_pos (b2_eq0.mpr c3)]
    exact bad 2 (by decide) hk _
  rw [if_neg c3] at hk
  rw [if_neg (b2_n0.mpr (eq_true_of_ne_false c3))]
  by_cases c4 : 4 ≤ (aCond A).length
  · rw [if_pos c4] at hk
    rw [if_pos (q_4 (by omega))]
    exact bad 3 (by decide) hk _
  rw [if_neg c4] at hk
  rw [if_neg (fun z => c4 (by have := nq_4 (by omega) z; omega)), nI_clamp (n := (aCond A).length) (by omega)]
  refine ⟨fun _ => ⟨ik 4 (by omega), ik 4 (by omega), ik 4 (by omega), ik 4 (by omega), hk _ (_, _) rfl (fun _ => nI_1 _) ?_⟩, fun z => absurd (Int32.le_refl 0) z⟩
  refine ⟨hT, hL, hR, hS, ⟨hD.1, hD.2.1, ⟨?_, fun j w hw => ?_⟩, hD.2.2.2⟩, hE, hB, hA⟩
  · show nI (aCond A).length + 1 = nI (aCond A ++ [(a, b, k, n)]).length
    rw [nI_1, List.length_append]
    rfl
  · rcases app_at hw with ⟨hne, hw⟩ | ⟨e, rfl⟩
    · obtain ⟨y1, y2, y3, y4⟩ := hD.2.2.1.2 j w hw
      exact ⟨Eq.trans (upd_n hne) y1, Eq.trans (upd_n hne) y2, Eq.trans (upd_n hne) y3, Eq.trans (upd_n hne) y4⟩
    · rw [e]
      exact ⟨upd_s, upd_s, upd_s, upd_s⟩
theorem km_out {A : qkA} {v : qkAns} {S : qm_S} {a b : Int32} {K : Int32 → qm_S → Prop} (h : cC A v S) (hi : iD A) (hk : kM (kf_outp A a b) v K) : T_X8_out a b S K := by
  unfold T_X8_out
  obtain ⟨hT, hL, hR, hS, hD, hE, hB, hA⟩ := id h
  obtain ⟨e1, p1⟩ := fm_sc (a := a) (b := b) hD hi
  have h3 := hi.2.2.2.1.1
  rw [e1, hD.2.2.2.1]
  unfold kf_outp at hk
  have bad : ∀ e : Int32, ¬ e ≤ 0 → kM (e, 0, A) v K → ∀ P : Prop, (e ≤ 0 → P) ∧ (¬ e ≤ 0 → K 0 (upd S.1 0 e, S.2)) := fun e he hk P => ⟨fun z => absurd z he, fun _ => hk.bad (fun z => he (by rw [z]; exact Int32.le_refl 0)) h⟩
  refine ⟨p1, ?_⟩
  by_cases c1 : kf_kc A a b = true
  · rw [if_pos c1] at hk
    rw [if_pos (b2_eq0.mpr (by rw [c1]; rfl))]
    exact bad 1 (by decide) hk _
  rw [if_neg c1] at hk
  rw [if_neg (b2_n0.mpr (by simpa using c1))]
  by_cases c4 : 3 ≤ (aOut A).length
  · rw [if_pos c4] at hk
    rw [if_pos (q_3 (by omega))]
    exact bad 2 (by decide) hk _
  rw [if_neg c4] at hk
  rw [if_neg (fun z => c4 (by have := nq_3 (by omega) z; omega)), nI_clamp (n := (aOut A).length) (by omega)]
  refine ⟨fun _ => ⟨ik 3 (by omega), ik 3 (by omega), hk _ (_, _) rfl (fun _ => nI_1 _) ?_⟩, fun z => absurd (Int32.le_refl 0) z⟩
  refine ⟨hT, hL, hR, hS, ⟨hD.1, hD.2.1, hD.2.2.1, ⟨?_, fun j w hw => ?_⟩⟩, hE, hB, hA⟩
  · show nI (aOut A).length + 1 = nI (aOut A ++ [(a, b)]).length
    rw [nI_1, List.length_append]
    rfl
  · rcases app_at hw with ⟨hne, hw⟩ | ⟨e, rfl⟩
    · obtain ⟨y1, y2⟩ := hD.2.2.2.2 j w hw
      exact ⟨Eq.trans (upd_n hne) y1, Eq.trans (upd_n hne) y2⟩
    · rw [e]
      exact ⟨upd_s, upd_s⟩
theorem km_shape {A : qkA} {v : qkAns} {S : qm_S} {a b : Int32} {K : qm_S → Prop} (hb : b = 0 ∨ b = 1) (h : cC A v S) (hk : ∀ S' : qm_S, S'.1 0 = (kf_shape A a b).1 → cC (kf_shape A a b).2 v S' → K S') : T_X8_shape a b S K := by
  unfold T_X8_shape
  rw [fm_in]
  unfold kf_shape at hk
  by_cases c2 : a < 1 ∨ 40 < a
  · rw [if_pos c2] at hk
    rw [if_pos (d0 (fun z => c2.elim z.1 z.2))]
    exact ⟨fun _ => hk _ rfl h, fun z => absurd z (by decide)⟩
  rw [if_neg c2] at hk
  rw [if_neg (d1 (not_or.mp c2))]
  obtain ⟨hT, hL, hR, hS, hD, hE, hB, hA⟩ := h
  exact ⟨fun z => absurd rfl z, fun _ => ⟨hb, hk _ rfl ⟨⟨hT.1, hT.2.1, hT.2.2.1, rfl, rfl⟩, hL, hR, hS, hD, hE, hB, hA⟩⟩⟩
theorem km_clear {A : qkA} {v : qkAns} {S : qm_S} {K : Int32 → qm_S → Prop} (h : cC A v S) (hk : ∀ S' : qm_S, S'.1 0 = 0 → cC (kf_clear A) v S' → K (nI (aSeat A).length) S') : T_X8_clear S K := by
  unfold T_X8_clear
  obtain ⟨hT, hL, hR, hS, hD, hE, hB, hA⟩ := h
  rw [hD.1.1]
  exact hk _ rfl ⟨⟨hT.1, hT.2.1, hT.2.2.1, rfl, rfl⟩, hL, hR, hS, ⟨⟨rfl, fun k w hw => absurd (show ([] : List Int32)[k]? = some w from hw) (by simp)⟩, ⟨rfl, fun k w hw => absurd (show ([] : List qkC)[k]? = some w from hw) (by simp)⟩, ⟨rfl, fun k w hw => absurd (show ([] : List qkC)[k]? = some w from hw) (by simp)⟩, ⟨rfl, fun k w hw => absurd (show ([] : List qkOut)[k]? = some w from hw) (by simp)⟩⟩, hE, hB, hA⟩
/-! the latest answer -/
theorem km_answers {A : qkA} {v : qkAns} {S : qm_S} {K : Int32 → qm_S → Prop} (h : cC A v S) (hk : kN A (0, nI v.1.length) v K) : T_X8_answers S K := hk _ (_, _) rfl (fun _ => h.2.2.2.2.2.2.2.1) h
theorem km_missing {A : qkA} {v : qkAns} {S : qm_S} {K : Int32 → qm_S → Prop} (h : cC A v S) (hk : kN A (0, v.2.1 2) v K) : T_X8_missing S K := hk _ (_, _) rfl (fun _ => h.2.2.2.2.2.2.2.2.2.2.1) h
theorem km_claims {A : qkA} {v : qkAns} {S : qm_S} {K : Int32 → qm_S → Prop} (h : cC A v S) (hk : kN A (0, v.2.1 3) v K) : T_X8_claims S K := hk _ (_, _) rfl (fun _ => h.2.2.2.2.2.2.2.2.2.2.2.1) h
theorem km_cost {A : qkA} {v : qkAns} {S : qm_S} {K : Int32 → qm_S → Prop} (h : cC A v S) (hk : kN A (0, v.2.1 4) v K) : T_X8_cost S K := hk _ (_, _) rfl (fun _ => h.2.2.2.2.2.2.2.2.2.2.2.2.1) h
theorem km_attempts {A : qkA} {v : qkAns} {S : qm_S} {K : Int32 → qm_S → Prop} (h : cC A v S) (hk : kN A (0, v.2.1 5) v K) : T_X8_attempts S K := hk _ (_, _) rfl (fun _ => h.2.2.2.2.2.2.2.2.2.2.2.2.2.1) h
theorem km_shipped {A : qkA} {v : qkAns} {S : qm_S} {K : Int32 → qm_S → Prop} (h : cC A v S) (hk : kN A (0, v.2.1 6) v K) : T_X8_shipped S K := hk _ (_, _) rfl (fun _ => h.2.2.2.2.2.2.2.2.2.2.2.2.2.2.1) h
theorem km_answer {A : qkA} {v : qkAns} {S : qm_S} {a b : Int32} {K : Int32 → qm_S → Prop} (h : cC A v S) (hk : kN A (kf_cellOf v.1 a b) v K) : T_X8_answer a b S K := by
  unfold T_X8_answer
  obtain ⟨v1, v2, v3, _⟩ := h.2.2.2.2.2.2.2
  have bad : kN A (1, 0) v K → ∀ P : Prop, ((1 : Int32) ≤ 0 → P) ∧ (¬ (1 : Int32) ≤ 0 → K 0 (upd S.1 0 1, S.2)) := fun hk P => ⟨fun z => absurd z (by decide), fun _ => hk.bad (by decide) h⟩
  rw [fm_in, fm_in, v1]
  unfold kf_cellOf at hk
  have hw : decide (¬ a < 0 ∧ ¬ nI v.1.length - 1 < a) = decide (¬ (a < 0 ∨ ¬ a < nI v.1.length)) := by
    rw [decide_eq_decide, lt_pred (by omega), not_or]
  rw [hw]
  by_cases c1 : a < 0 ∨ ¬ a < nI v.1.length
  · rw [if_pos c1] at hk
    rw [if_pos (d0 (fun z => z c1))]
    exact bad hk _
  rw [if_neg c1] at hk
  rw [if_neg (d1 c1)]
  have c1' := c1
  rw [not_or, Classical.not_not] at c1'
  obtain ⟨k, hk', rfl⟩ := ix_of _ (by omega) c1'.1 c1'.2
  have hg : v.1[k]? = some v.1[k] := List.getElem?_eq_getElem hk'
  rw [nI_clamp (n := k) (by omega), hg] at hk
  dsimp only at hk
  obtain ⟨w1, w2, w3⟩ := v3 k _ hg
  rw [w1]
  have hw : decide (¬ b < 0 ∧ ¬ nI (v.1[k]).1 - 1 < b) = decide (¬ (b < 0 ∨ ¬ b < nI (v.1[k]).1)) := by
    rw [decide_eq_decide, lt_pred (by omega), not_or]
  rw [hw]
  by_cases c2 : b < 0 ∨ ¬ b < nI (v.1[k]).1
  · rw [if_pos c2] at hk
    rw [if_pos (d0 (fun z => z c2))]
    exact bad hk _
  rw [if_neg c2] at hk
  rw [if_neg (d1 c2)]
  rw [not_or, Classical.not_not] at c2
  obtain ⟨j, hj, rfl⟩ := ix_of _ (by omega) c2.1 c2.2
  rw [nI_clamp (n := j) (by omega)] at hk
  rw [m_3, nI_add, nI_clamp (n := 3 * k + j) (by omega)]
  exact ⟨fun _ => ⟨ik 120 (by omega), hk _ (_, _) rfl (fun _ => w3 j hj) h⟩, fun z => absurd (Int32.le_refl 0) z⟩
theorem km_taken {A : qkA} {v : qkAns} {S : qm_S} {a : Int32} {K : Int32 → qm_S → Prop} (h : cC A v S) (hk : kN A (kf_takenAt v.2.2 a) v K) : T_X8_taken a S K := by
  unfold T_X8_taken
  obtain ⟨_, _, _, _, _, _, _, _, v1, v2, v3⟩ := h.2.2.2.2.2.2.2
  rw [fm_in, v1]
  unfold kf_takenAt at hk
  have hw : decide (¬ a < 0 ∧ ¬ nI v.2.2.length - 1 < a) = decide (¬ (a < 0 ∨ ¬ a < nI v.2.2.length)) := by
    rw [decide_eq_decide, lt_pred (by omega), not_or]
  rw [hw]
  by_cases c1 : a < 0 ∨ ¬ a < nI v.2.2.length
  · rw [if_pos c1] at hk
    rw [if_pos (d0 (fun z => z c1))]
    exact ⟨fun z => absurd z (by decide), fun _ => hk.bad (by decide) h⟩
  rw [if_neg c1] at hk
  rw [if_neg (d1 c1)]
  rw [not_or, Classical.not_not] at c1
  obtain ⟨k, hk', rfl⟩ := ix_of _ (by omega) c1.1 c1.2
  have hg : v.2.2[k]? = some v.2.2[k] := List.getElem?_eq_getElem hk'
  rw [nI_clamp (n := k) (by omega), hg] at hk
  rw [nI_clamp (n := k) (by omega)]
  exact ⟨fun _ => ⟨ik 3 (by omega), hk _ (_, _) rfl (fun _ => v3 k _ hg) h⟩, fun z => absurd (Int32.le_refl 0) z⟩
/-! the bundle's steps -/
theorem fm_good {k b c d : Int32} : (if b2 (decide (¬ k < 0 ∧ ¬ 2 < k)) = 0 then (0 : Int32) else if k = 0 then if k = 2 then if b = 0 then if c = 0 then (1 : Int32) else (0 : Int32) else (0 : Int32) else (1 : Int32) else if d = 0 then if k = 2 then if b = 0 then if c = 0 then (1 : Int32) else (0 : Int32) else (0 : Int32) else (1 : Int32) else (0 : Int32)) = b2 (decide (¬ (k < 0 ∨ 2 < k)) && kf_stepOk k b c d) := by
  unfold kf_stepOk
  by_cases r : k < 0 ∨ 2 < k
  · rw [if_pos (d0 (fun z => r.elim z.1 z.2)), decide_eq_false (fun z => z r)]
    rfl
  · rw [if_neg (d1 (not_or.mp r)), decide_eq_true r, Bool.true_and]
    by_cases k0 : k = 0
    · rw [if_pos k0, if_neg (by rw [k0]; decide), decide_eq_true k0]
      rfl
    · rw [if_neg k0, decide_eq_false k0, Bool.false_or]
      have hk : k = 1 ∨ k = 2 := by
        rw [not_or] at r
        obtain ⟨j, hj, e⟩ := nI_of2 (M := 2) (n := 2) (by decide) r.1 (Int32.not_lt.mp r.2)
        have : j = 0 ∨ j = 1 ∨ j = 2 := by omega
        rcases this with rfl | rfl | rfl
        · exact absurd e k0
        · exact Or.inl e
        · exact Or.inr e
      rcases hk with rfl | rfl
      · by_cases hd : d = 0 <;> simp [hd, b2]
      · by_cases hd : d = 0 <;> by_cases hb : b = 0 <;> by_cases hc : c = 0 <;> simp [hd, hb, hc, b2]
theorem km_step {A : qkA} {v : qkAns} {S : qm_S} {k s a b c d : Int32} {K : Int32 → qm_S → Prop} (h : cC A v S) (hi : iB A) (hk : kM (kf_step2 A k s a b c d) v K) : T_X8_step k s a b c d S K := by
  unfold T_X8_step
  obtain ⟨hT, hL, hR, hS, hD, hE, hB, hA⟩ := id h
  have h4 := hi.1
  rw [fm_src, fm_in, fm_good, hB.1]
  unfold kf_step2 at hk
  have bad : ∀ e : Int32, ¬ e ≤ 0 → kM (e, 0, A) v K → ∀ P : Prop, (e ≤ 0 → P) ∧ (¬ e ≤ 0 → K 0 (upd S.1 0 e, S.2)) := fun e he hk P => ⟨fun z => absurd z he, fun _ => hk.bad (fun z => he (by rw [z]; exact Int32.le_refl 0)) h⟩
  by_cases c1 : s < 0 ∨ ¬ s < 6
  · rw [if_pos c1] at hk
    rw [if_pos (d0 (fun z => z c1))]
    exact bad 1 (by decide) hk _
  rw [if_neg c1] at hk
  rw [if_neg (d1 c1)]
  by_cases c2 : k < 0 ∨ 2 < k
  · rw [if_pos c2] at hk
    rw [if_pos (b2_eq0.mpr (by rw [decide_eq_false (fun z => z c2)]; rfl))]
    exact bad 2 (by decide) hk _
  rw [if_neg c2] at hk
  rw [decide_eq_true c2, Bool.true_and]
  by_cases c3 : kf_stepOk k b c d = false
  · rw [if_pos c3] at hk
    rw [if_pos (b2_eq0.mpr c3)]
    exact bad 2 (by decide) hk _
  rw [if_neg c3] at hk
  rw [if_neg (b2_n0.mpr (eq_true_of_ne_false c3))]
  by_cases c4 : 4 ≤ (aBun A).length
  · rw [if_pos c4] at hk
    rw [if_pos (q_4 (by omega))]
    exact bad 3 (by decide) hk _
  rw [if_neg c4] at hk
  rw [if_neg (fun z => c4 (by have := nq_4 (by omega) z; omega)), nI_clamp (n := (aBun A).length) (by omega)]
  refine ⟨fun _ => ⟨ik 4 (by omega), ik 4 (by omega), ik 4 (by omega), ik 4 (by omega), ik 4 (by omega), ik 4 (by omega), hk _ (_, _) rfl (fun _ => nI_1 _) ?_⟩, fun z => absurd (Int32.le_refl 0) z⟩
  refine ⟨hT, hL, hR, hS, hD, hE, ⟨?_, fun j w hw => ?_⟩, hA⟩
  · show nI (aBun A).length + 1 = nI (aBun A ++ [kf_six k s a b c d]).length
    rw [nI_1, List.length_append]
    rfl
  · rcases app_at hw with ⟨hne, hw⟩ | ⟨e, rfl⟩
    · obtain ⟨y1, y2, y3, y4, y5, y6⟩ := hB.2 j w hw
      exact ⟨Eq.trans (upd_n hne) y1, Eq.trans (upd_n hne) y2, Eq.trans (upd_n hne) y3, Eq.trans (upd_n hne) y4, Eq.trans (upd_n hne) y5, Eq.trans (upd_n hne) y6⟩
    · rw [e]
      exact ⟨upd_s, upd_s, upd_s, upd_s, upd_s, upd_s⟩
