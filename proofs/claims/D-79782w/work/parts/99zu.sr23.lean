/-! SR 23 (printed by mk_st8.py): what the reference's constructor leaves -/
set_option maxRecDepth 100000
def stC : Nat → Nat → Int32 := fun k => if k = 9 then (upd (upd (upd (fun _ => 0) 0 1) 1 1) 2 1) else if k = 11 then (upd (upd (upd (fun _ => 0) 0 20) 1 20) 2 20) else if k = 12 then (upd (upd (upd (fun _ => 0) 0 12) 1 12) 2 12) else if k = 13 then (upd (upd (upd (fun _ => 0) 0 60) 1 60) 2 60) else if k = 18 then (upd (upd (upd (fun _ => 0) 0 5) 1 1) 2 3) else if k = 19 then (upd (upd (upd (fun _ => 0) 0 1) 1 1) 2 2) else if k = 21 then (upd (upd (upd (upd (upd (upd (fun _ => 0) 0 10) 1 10) 2 10) 3 10) 4 10) 5 10) else fun _ => 0
def stS : Nat → Int32 := (upd (upd (fun _ => 0) 37 40) 79 ((-1)))
/-- the reference on its way: its arrays below n are there -/
def mz (g : qh_G) (a : Nat) (h0 : qc_H) (sc : Nat → Int32) (fa : Nat → Nat) (n : Nat) (h : qc_H) : Prop := (∃ fs : List Value, h a = some (.inl (.inr (7, fs))) ∧ fs.length = 94 ∧ ∀ k, k < 94 → fs[k]? = some (if k ∈ qm_ar then (if k < n then .ref (fa k) else .null) else .int (sc k))) ∧ (∀ k, k ∈ qm_ar → k < n → h (fa k) = some (.inl (.inl (g.2.2.2.1 (qm_ty k), qm_len k, .inl (stC k))))) ∧ (∀ k, k ∈ qm_ar → k < n → fa k ≠ a) ∧ (∀ j k, j ∈ qm_ar → k ∈ qm_ar → j < n → k < n → fa j = fa k → j = k) ∧ (∀ k, k ∈ qm_ar → k < n → h0 (fa k) = none) ∧ ∀ b, b ≠ a → (∀ k, k ∈ qm_ar → k < n → b ≠ fa k) → h b = h0 b
/-- one array more, not yet a field -/
def mp (g : qh_G) (a : Nat) (h0 : qc_H) (sc : Nat → Int32) (fa : Nat → Nat) (n k w : Nat) (f : Nat → Int32) (h : qc_H) : Prop := (k ∈ qm_ar ∧ n ≤ k ∧ (∀ j, j ∈ qm_ar → j < k + 1 → j < n ∨ j = k) ∧ k < 94) ∧ (h w = some (.inl (.inl (g.2.2.2.1 (qm_ty k), qm_len k, .inl f))) ∧ h0 w = none ∧ w ≠ a ∧ ∀ j, j ∈ qm_ar → j < n → w ≠ fa j) ∧ (∃ fs : List Value, h a = some (.inl (.inr (7, fs))) ∧ fs.length = 94 ∧ ∀ k, k < 94 → fs[k]? = some (if k ∈ qm_ar then (if k < n then .ref (fa k) else .null) else .int (sc k))) ∧ (∀ k, k ∈ qm_ar → k < n → h (fa k) = some (.inl (.inl (g.2.2.2.1 (qm_ty k), qm_len k, .inl (stC k))))) ∧ (∀ k, k ∈ qm_ar → k < n → fa k ≠ a) ∧ (∀ j k, j ∈ qm_ar → k ∈ qm_ar → j < n → k < n → fa j = fa k → j = k) ∧ (∀ k, k ∈ qm_ar → k < n → h0 (fa k) = none) ∧ ∀ b, b ≠ a → b ≠ w → (∀ k, k ∈ qm_ar → k < n → b ≠ fa k) → h b = h0 b
section
variable {g : qh_G} {a : Nat} {h0 h : qc_H} {sc : Nat → Int32} {fa : Nat → Nat} {n k w c : Nat} {f : Nat → Int32}
theorem mz.mk (Z : mz g a h0 sc fa n h) (k : Nat) (hk : k ∈ qm_ar) (hn : n ≤ k) (hg : ∀ j, j ∈ qm_ar → j < k + 1 → j < n ∨ j = k) (hw : h w = none) : mp g a h0 sc fa n k w (fun _ => 0) (qc_up h w (.inl (.inl (g.2.2.2.1 (qm_ty k), qm_len k, .inl (fun _ => 0))))) := by
  obtain ⟨⟨fs, z1, z2, z3⟩, z4, z5, z6, z7, z8⟩ := Z
  have wa : a ≠ w := fun e => by rw [e, hw] at z1; cases z1
  have wf : ∀ j, j ∈ qm_ar → j < n → fa j ≠ w := fun j hj hjn e => by
    have := z4 j hj hjn
    rw [e, hw] at this
    cases this
  have w0 : h0 w = none := by
    rw [← z8 w (fun e => wa e.symm) (fun j hj hjn e => wf j hj hjn e.symm)]
    exact hw
  refine ⟨⟨hk, hn, hg, ar_94 k hk⟩, ⟨qc_up_s, w0, fun e => wa e.symm, fun j hj hjn e => wf j hj hjn e.symm⟩, ⟨fs, by rw [qc_up_n wa]; exact z1, z2, z3⟩, fun j hj hjn => by rw [qc_up_n (wf j hj hjn)]; exact z4 j hj hjn, z5, z6, z7, fun b b1 b2 b3 => by rw [qc_up_n b2]; exact z8 b b1 b3⟩
theorem mz.NI {x : Int32} {K : Nat → qc_H → Nat → Prop} (Z : mz g a h0 sc fa n h) (k N c' : Nat) (hk : k ∈ qm_ar) (hn : n ≤ k) (hg : ∀ j, j ∈ qm_ar → j < k + 1 → j < n ∨ j = k) (hk2 : k < 94) (ht : qm_ty k = 0) (hl : qm_len k = N) (hx : x = nI N) (hN : N ≤ 100000) (hc : c = c' + (N + 1)) (kk : ∀ w h', mp g a h0 sc fa n k w (fun _ => 0) h' → K w h' c') : eNI g.2.2.2.1 h x c K := by
  subst hx
  have e : (nI N).toNatClampNeg = N := nI_clamp (by omega)
  refine ⟨nI_pos (by omega), by omega, c', by omega, fun w hw => ?_⟩
  have := Z.mk (w := w) k hk hn hg hw
  rw [ht, hl] at this
  rw [e]
  exact kk w _ this
theorem mz.NZ {x : Int32} {K : Nat → qc_H → Nat → Prop} (Z : mz g a h0 sc fa n h) (k N c' : Nat) (hk : k ∈ qm_ar) (hn : n ≤ k) (hg : ∀ j, j ∈ qm_ar → j < k + 1 → j < n ∨ j = k) (hk2 : k < 94) (ht : qm_ty k = 1) (hl : qm_len k = N) (hx : x = nI N) (hN : N ≤ 100000) (hc : c = c' + (N + 1)) (kk : ∀ w h', mp g a h0 sc fa n k w (fun _ => 0) h' → K w h' c') : eNZ g.2.2.2.1 h x c K := by
  subst hx
  have e : (nI N).toNatClampNeg = N := nI_clamp (by omega)
  refine ⟨nI_pos (by omega), by omega, c', by omega, fun w hw => ?_⟩
  have := Z.mk (w := w) k hk hn hg hw
  rw [ht, hl] at this
  rw [e]
  exact kk w _ this
theorem mp.W {x v : Int32} {K : qc_H → Prop} (Z : mp g a h0 sc fa n k w f h) (i : Nat) (ht : qm_ty k = 0) (hx : x = nI i) (hi : i < qm_len k) (hl : qm_len k ≤ 1000) (kk : ∀ h', mp g a h0 sc fa n k w (upd f i v) h' → K h') : eW g.2.2.2.1 h w x v K := by
  subst hx
  obtain ⟨y0, ⟨y1, y2, y3, y4⟩, ⟨fs, z1, z2, z3⟩, z4, z5, z6, z7, z8⟩ := Z
  have y1' := y1
  rw [ht] at y1'
  refine ⟨qm_len k, f, y1', pk_in i _ (by omega), ?_⟩
  rw [nI_clamp (by omega)]
  refine kk _ ⟨y0, ⟨by rw [ht]; exact qc_up_s, y2, y3, y4⟩, ⟨fs, by rw [qc_up_n (Ne.symm y3)]; exact z1, z2, z3⟩, fun j hj hjn => by rw [qc_up_n (Ne.symm (y4 j hj hjn))]; exact z4 j hj hjn, z5, z6, z7, fun b b1 b2 b3 => by rw [qc_up_n b2]; exact z8 b b1 b2 b3⟩
theorem mp.P {K : qc_H → Prop} (Z : mp g a h0 sc fa n k w f h) (hf : stC k = f) (kk : ∀ h', mz g a h0 sc (va_up fa k w) (k + 1) h' → K h') : eP h a 7 k (.ref w) K := by
  obtain ⟨⟨hk, hn, hg, hk2⟩, ⟨y1, y2, y3, y4⟩, ⟨fs, z1, z2, z3⟩, z4, z5, z6, z7, z8⟩ := Z
  have uj : ∀ j, j < n → va_up fa k w j = fa j := fun j hj => va_up_ne _ _ (by omega)
  have dj : ∀ j, j ∈ qm_ar → j < k + 1 → (j < n ∧ va_up fa k w j = fa j) ∨ (j = k ∧ va_up fa k w j = w) := fun j hj hjk => by
    rcases hg j hj hjk with e | e
    · exact Or.inl ⟨e, uj j e⟩
    · exact Or.inr ⟨e, by rw [e]; exact va_up_self _ _ _⟩
  refine ⟨fs, z1, by omega, kk _ ⟨⟨_, qc_up_s, by rw [List.length_set]; exact z2, fun j hj => ?_⟩, fun j hj hjk => ?_, fun j hj hjk => ?_, fun i j hi hj hik hjk hij => ?_, fun j hj hjk => ?_, fun b b1 b2 => ?_⟩⟩
  · by_cases e : j = k
    · subst e
      rw [List.getElem?_set_self (by omega), if_pos hk, if_pos (by omega), va_up_self]
    · rw [List.getElem?_set_ne (Ne.symm e), z3 j hj]
      by_cases hm : j ∈ qm_ar
      · rw [if_pos hm, if_pos hm]
        by_cases hl : j < n
        · rw [if_pos hl, if_pos (by omega), va_up_ne _ _ e]
        · rw [if_neg hl, if_neg (fun z => by rcases hg j hm z with q | q; exact hl q; exact e q)]
      · rw [if_neg hm, if_neg hm]
  · rcases dj j hj hjk with ⟨e1, e2⟩ | ⟨e1, e2⟩
    · rw [e2, qc_up_n (z5 j hj e1)]
      exact z4 j hj e1
    · rw [e2, qc_up_n y3, e1, hf]
      exact y1
  · rcases dj j hj hjk with ⟨e1, e2⟩ | ⟨e1, e2⟩
    · rw [e2]; exact z5 j hj e1
    · rw [e2]; exact y3
  · rcases dj i hi hik with ⟨e1, e2⟩ | ⟨e1, e2⟩ <;> rcases dj j hj hjk with ⟨d1, d2⟩ | ⟨d1, d2⟩
    · rw [e2, d2] at hij
      exact z6 i j hi hj e1 d1 hij
    · rw [e2, d2] at hij
      exact absurd hij.symm (y4 i hi e1)
    · rw [e2, d2] at hij
      exact absurd hij (y4 j hj d1)
    · rw [e1, d1]
  · rcases dj j hj hjk with ⟨e1, e2⟩ | ⟨e1, e2⟩
    · rw [e2]; exact z7 j hj e1
    · rw [e2]; exact y2
  · rw [qc_up_n b1]
    refine z8 b b1 (fun e => b2 k hk (by omega) (by rw [va_up_self]; exact e)) fun j hj hjn e => b2 j hj (by omega) (by rw [uj j hjn]; exact e)
theorem mz.S {v : Int32} {K : qc_H → Prop} (Z : mz g a h0 sc fa n h) (k : Nat) (hk : ¬ k ∈ qm_ar) (hk2 : k < 94) (kk : ∀ h', mz g a h0 (upd sc k v) fa n h' → K h') : eP h a 7 k (.int v) K := by
  obtain ⟨⟨fs, z1, z2, z3⟩, z4, z5, z6, z7, z8⟩ := Z
  refine ⟨fs, z1, by omega, kk _ ⟨⟨_, qc_up_s, by rw [List.length_set]; exact z2, fun j hj => ?_⟩, fun j hj hjn => by rw [qc_up_n (z5 j hj hjn)]; exact z4 j hj hjn, z5, z6, z7, fun b b1 b2 => by rw [qc_up_n b1]; exact z8 b b1 b2⟩⟩
  by_cases e : j = k
  · subst e
    rw [List.getElem?_set_self (by omega), if_neg hk, upd_s]
  · rw [List.getElem?_set_ne (Ne.symm e), z3 j hj]
    by_cases hm : j ∈ qm_ar
    · rw [if_pos hm, if_pos hm]
    · rw [if_neg hm, if_neg hm, upd_n e]
theorem qm_fs_m {fa : Nat → Nat} {sc : Nat → Int32} : qm_fs fa sc = (List.range 94).map (fun k => if k ∈ qm_ar then Value.ref (fa k) else Value.int (sc k)) := rfl
theorem mz.tw (Z : mz g a h0 sc fa 94 h) : tw g a fa h (sc, stC) := by
  obtain ⟨⟨fs, z1, z2, z3⟩, z4, z5, z6, z7, z8⟩ := Z
  refine ⟨?_, fun k hk => z4 k hk (ar_94 k hk), fun j k hj hk e => z6 j k hj hk (ar_94 j hj) (ar_94 k hk) e⟩
  have e : fs = qm_fs fa sc := by
    rw [qm_fs_m]
    apply List.ext_getElem?
    intro i
    by_cases hi : i < 94
    · rw [z3 i hi, List.getElem?_map, List.getElem?_range hi]
      by_cases hm : i ∈ qm_ar
      · simp only [Option.map_some, if_pos hm, if_pos hi]
      · simp only [Option.map_some, if_neg hm]
    · rw [List.getElem?_eq_none (by omega), List.getElem?_eq_none (by rw [List.length_map, List.length_range]; omega)]
  rw [z1, e]
end
theorem st_df : ∀ k, k < 94 → ([.int 0, .null, .null, .null, .null, .null, .int 0, .int 0, .int 0, .null, .null, .null, .null, .null, .null, .null, .null, .null, .null, .null, .null, .null, .int 0, .null, .int 0, .null, .null, .null, .null, .int 0, .null, .null, .null, .null, .int 0, .null, .null, .int 0, .int 0, .int 0, .null, .null, .null, .null, .null, .null, .null, .null, .null, .null, .null, .null, .int 0, .int 0, .int 0, .int 0, .null, .null, .null, .null, .null, .null, .int 0, .int 0, .null, .null, .null, .null, .int 0, .int 0, .null, .int 0, .null, .null, .null, .int 0, .int 0, .null, .int 0, .int 0, .int 0, .int 0, .int 0, .int 0, .null, .int 0, .null, .null, .null, .null, .null, .null, .null, .null] : List Value)[k]? = some (if k ∈ qm_ar then (if k < 0 then .ref 0 else .null) else .int 0)
  | 0, _ => rfl
  | 1, _ => rfl
  | 2, _ => rfl
  | 3, _ => rfl
  | 4, _ => rfl
  | 5, _ => rfl
  | 6, _ => rfl
  | 7, _ => rfl
  | 8, _ => rfl
  | 9, _ => rfl
  | 10, _ => rfl
  | 11, _ => rfl
  | 12, _ => rfl
  | 13, _ => rfl
  | 14, _ => rfl
  | 15, _ => rfl
  | 16, _ => rfl
  | 17, _ => rfl
  | 18, _ => rfl
  | 19, _ => rfl
  | 20, _ => rfl
  | 21, _ => rfl
  | 22, _ => rfl
  | 23, _ => rfl
  | 24, _ => rfl
  | 25, _ => rfl
  | 26, _ => rfl
  | 27, _ => rfl
  | 28, _ => rfl
  | 29, _ => rfl
  | 30, _ => rfl
  | 31, _ => rfl
  | 32, _ => rfl
  | 33, _ => rfl
  | 34, _ => rfl
  | 35, _ => rfl
  | 36, _ => rfl
  | 37, _ => rfl
  | 38, _ => rfl
  | 39, _ => rfl
  | 40, _ => rfl
  | 41, _ => rfl
  | 42, _ => rfl
  | 43, _ => rfl
  | 44, _ => rfl
  | 45, _ => rfl
  | 46, _ => rfl
  | 47, _ => rfl
  | 48, _ => rfl
  | 49, _ => rfl
  | 50, _ => rfl
  | 51, _ => rfl
  | 52, _ => rfl
  | 53, _ => rfl
  | 54, _ => rfl
  | 55, _ => rfl
  | 56, _ => rfl
  | 57, _ => rfl
  | 58, _ => rfl
  | 59, _ => rfl
  | 60, _ => rfl
  | 61, _ => rfl
  | 62, _ => rfl
  | 63, _ => rfl
  | 64, _ => rfl
  | 65, _ => rfl
  | 66, _ => rfl
  | 67, _ => rfl
  | 68, _ => rfl
  | 69, _ => rfl
  | 70, _ => rfl
  | 71, _ => rfl
  | 72, _ => rfl
  | 73, _ => rfl
  | 74, _ => rfl
  | 75, _ => rfl
  | 76, _ => rfl
  | 77, _ => rfl
  | 78, _ => rfl
  | 79, _ => rfl
  | 80, _ => rfl
  | 81, _ => rfl
  | 82, _ => rfl
  | 83, _ => rfl
  | 84, _ => rfl
  | 85, _ => rfl
  | 86, _ => rfl
  | 87, _ => rfl
  | 88, _ => rfl
  | 89, _ => rfl
  | 90, _ => rfl
  | 91, _ => rfl
  | 92, _ => rfl
  | 93, _ => rfl
  | k + 94, h => by omega
set_option maxHeartbeats 8000000 in
theorem st_X8 {g : qh_G} {a0 : Nat} {h : qc_H} {K : qc_H → Prop} (hz : h a0 = some (.inl (.inr (7, [.int 0, .null, .null, .null, .null, .null, .int 0, .int 0, .int 0, .null, .null, .null, .null, .null, .null, .null, .null, .null, .null, .null, .null, .null, .int 0, .null, .int 0, .null, .null, .null, .null, .int 0, .null, .null, .null, .null, .int 0, .null, .null, .int 0, .int 0, .int 0, .null, .null, .null, .null, .null, .null, .null, .null, .null, .null, .null, .null, .int 0, .int 0, .int 0, .int 0, .null, .null, .null, .null, .null, .null, .int 0, .int 0, .null, .null, .null, .null, .int 0, .int 0, .null, .int 0, .null, .null, .null, .int 0, .int 0, .null, .int 0, .int 0, .int 0, .int 0, .int 0, .int 0, .null, .int 0, .null, .null, .null, .null, .null, .null, .null, .null])))) (hK : ∀ (fa : Nat → Nat) (h' : qc_H), tw g a0 fa h' (stS, stC) → (∀ k, k ∈ qm_ar → fa k ≠ a0 ∧ h (fa k) = none) → (∀ b, b ≠ a0 → (∀ k, k ∈ qm_ar → b ≠ fa k) → h' b = h b) → K h') : T_X8_init g a0 h 1676 K := by
  have Z : mz g a0 h (fun _ => 0) (fun _ => 0) 0 h := ⟨⟨_, hz, rfl, fun k hk => st_df k hk⟩, fun k _ z => absurd z (by omega), fun k _ z => absurd z (by omega), fun j k _ _ z => absurd z (by omega), fun k _ z => absurd z (by omega), fun b _ _ => rfl⟩
  unfold T_X8_init
  refine Z.NI 1 6 1669 (by decide) (by decide) (by decide) (by decide) rfl rfl rfl (by decide) rfl fun w1 h Z => ?_
  refine Z.P rfl fun h Z => ?_
  refine Z.NI 2 72 1596 (by decide) (by decide) (by decide) (by decide) rfl rfl rfl (by decide) rfl fun w2 h Z => ?_
  refine Z.P rfl fun h Z => ?_
  refine Z.NI 3 288 1307 (by decide) (by decide) (by decide) (by decide) rfl rfl rfl (by decide) rfl fun w3 h Z => ?_
  refine Z.P rfl fun h Z => ?_
  refine Z.NI 4 6 1300 (by decide) (by decide) (by decide) (by decide) rfl rfl rfl (by decide) rfl fun w4 h Z => ?_
  refine Z.P rfl fun h Z => ?_
  refine Z.NI 5 6 1293 (by decide) (by decide) (by decide) (by decide) rfl rfl rfl (by decide) rfl fun w5 h Z => ?_
  refine Z.P rfl fun h Z => ?_
  refine Z.NI 9 3 1289 (by decide) (by decide) (by decide) (by decide) rfl rfl rfl (by decide) rfl fun w9 h Z => ?_
  refine Z.W 0 rfl rfl (by decide) (by decide) fun h Z => ?_
  refine Z.W 1 rfl rfl (by decide) (by decide) fun h Z => ?_
  refine Z.W 2 rfl rfl (by decide) (by decide) fun h Z => ?_
  refine Z.P rfl fun h Z => ?_
  refine Z.NI 10 3 1285 (by decide) (by decide) (by decide) (by decide) rfl rfl rfl (by decide) rfl fun w10 h Z => ?_
  refine Z.P rfl fun h Z => ?_
  refine Z.NI 11 3 1281 (by decide) (by decide) (by decide) (by decide) rfl rfl rfl (by decide) rfl fun w11 h Z => ?_
  refine Z.W 0 rfl rfl (by decide) (by decide) fun h Z => ?_
  refine Z.W 1 rfl rfl (by decide) (by decide) fun h Z => ?_
  refine Z.W 2 rfl rfl (by decide) (by decide) fun h Z => ?_
  refine Z.P rfl fun h Z => ?_
  refine Z.NI 12 3 1277 (by decide) (by decide) (by decide) (by decide) rfl rfl rfl (by decide) rfl fun w12 h Z => ?_
  refine Z.W 0 rfl rfl (by decide) (by decide) fun h Z => ?_
  refine Z.W 1 rfl rfl (by decide) (by decide) fun h Z => ?_
  refine Z.W 2 rfl rfl (by decide) (by decide) fun h Z => ?_
  refine Z.P rfl fun h Z => ?_
  refine Z.NI 13 3 1273 (by decide) (by decide) (by decide) (by decide) rfl rfl rfl (by decide) rfl fun w13 h Z => ?_
  refine Z.W 0 rfl rfl (by decide) (by decide) fun h Z => ?_
  refine Z.W 1 rfl rfl (by decide) (by decide) fun h Z => ?_
  refine Z.W 2 rfl rfl (by decide) (by decide) fun h Z => ?_
  refine Z.P rfl fun h Z => ?_
  refine Z.NI 14 3 1269 (by decide) (by decide) (by decide) (by decide) rfl rfl rfl (by decide) rfl fun w14 h Z => ?_
  refine Z.P rfl fun h Z => ?_
  refine Z.NZ 15 3 1265 (by decide) (by decide) (by decide) (by decide) rfl rfl rfl (by decide) rfl fun w15 h Z => ?_
  refine Z.P rfl fun h Z => ?_
  refine Z.NI 16 3 1261 (by decide) (by decide) (by decide) (by decide) rfl rfl rfl (by decide) rfl fun w16 h Z => ?_
  refine Z.P rfl fun h Z => ?_
  refine Z.NI 17 3 1257 (by decide) (by decide) (by decide) (by decide) rfl rfl rfl (by decide) rfl fun w17 h Z => ?_
  refine Z.P rfl fun h Z => ?_
  refine Z.NI 18 3 1253 (by decide) (by decide) (by decide) (by decide) rfl rfl rfl (by decide) rfl fun w18 h Z => ?_
  refine Z.W 0 rfl rfl (by decide) (by decide) fun h Z => ?_
  refine Z.W 1 rfl rfl (by decide) (by decide) fun h Z => ?_
  refine Z.W 2 rfl rfl (by decide) (by decide) fun h Z => ?_
  refine Z.P rfl fun h Z => ?_
  refine Z.NI 19 3 1249 (by decide) (by decide) (by decide) (by decide) rfl rfl rfl (by decide) rfl fun w19 h Z => ?_
  refine Z.W 0 rfl rfl (by decide) (by decide) fun h Z => ?_
  refine Z.W 1 rfl rfl (by decide) (by decide) fun h Z => ?_
  refine Z.W 2 rfl rfl (by decide) (by decide) fun h Z => ?_
  refine Z.P rfl fun h Z => ?_
  refine Z.NI 20 6 1242 (by decide) (by decide) (by decide) (by decide) rfl rfl rfl (by decide) rfl fun w20 h Z => ?_
  refine Z.P rfl fun h Z => ?_
  refine Z.NI 21 6 1235 (by decide) (by decide) (by decide) (by decide) rfl rfl rfl (by decide) rfl fun w21 h Z => ?_
  refine Z.W 0 rfl rfl (by decide) (by decide) fun h Z => ?_
  refine Z.W 1 rfl rfl (by decide) (by decide) fun h Z => ?_
  refine Z.W 2 rfl rfl (by decide) (by decide) fun h Z => ?_
  refine Z.W 3 rfl rfl (by decide) (by decide) fun h Z => ?_
  refine Z.W 4 rfl rfl (by decide) (by decide) fun h Z => ?_
  refine Z.W 5 rfl rfl (by decide) (by decide) fun h Z => ?_
  refine Z.P rfl fun h Z => ?_
  refine Z.NI 23 3 1231 (by decide) (by decide) (by decide) (by decide) rfl rfl rfl (by decide) rfl fun w23 h Z => ?_
  refine Z.P rfl fun h Z => ?_
  refine Z.NI 25 3 1227 (by decide) (by decide) (by decide) (by decide) rfl rfl rfl (by decide) rfl fun w25 h Z => ?_
  refine Z.P rfl fun h Z => ?_
  refine Z.NI 26 3 1223 (by decide) (by decide) (by decide) (by decide) rfl rfl rfl (by decide) rfl fun w26 h Z => ?_
  refine Z.P rfl fun h Z => ?_
  refine Z.NI 27 3 1219 (by decide) (by decide) (by decide) (by decide) rfl rfl rfl (by decide) rfl fun w27 h Z => ?_
  refine Z.P rfl fun h Z => ?_
  refine Z.NI 28 3 1215 (by decide) (by decide) (by decide) (by decide) rfl rfl rfl (by decide) rfl fun w28 h Z => ?_
  refine Z.P rfl fun h Z => ?_
  refine Z.NI 30 4 1210 (by decide) (by decide) (by decide) (by decide) rfl rfl rfl (by decide) rfl fun w30 h Z => ?_
  refine Z.P rfl fun h Z => ?_
  refine Z.NI 31 4 1205 (by decide) (by decide) (by decide) (by decide) rfl rfl rfl (by decide) rfl fun w31 h Z => ?_
  refine Z.P rfl fun h Z => ?_
  refine Z.NI 32 4 1200 (by decide) (by decide) (by decide) (by decide) rfl rfl rfl (by decide) rfl fun w32 h Z => ?_
  refine Z.P rfl fun h Z => ?_
  refine Z.NI 33 4 1195 (by decide) (by decide) (by decide) (by decide) rfl rfl rfl (by decide) rfl fun w33 h Z => ?_
  refine Z.P rfl fun h Z => ?_
  refine Z.NI 35 3 1191 (by decide) (by decide) (by decide) (by decide) rfl rfl rfl (by decide) rfl fun w35 h Z => ?_
  refine Z.P rfl fun h Z => ?_
  refine Z.NI 36 3 1187 (by decide) (by decide) (by decide) (by decide) rfl rfl rfl (by decide) rfl fun w36 h Z => ?_
  refine Z.P rfl fun h Z => ?_
  refine Z.S 37 (by decide) (by decide) fun h Z => ?_
  refine Z.NI 40 6 1180 (by decide) (by decide) (by decide) (by decide) rfl rfl rfl (by decide) rfl fun w40 h Z => ?_
  refine Z.P rfl fun h Z => ?_
  refine Z.NI 41 6 1173 (by decide) (by decide) (by decide) (by decide) rfl rfl rfl (by decide) rfl fun w41 h Z => ?_
  refine Z.P rfl fun h Z => ?_
  refine Z.NI 42 6 1166 (by decide) (by decide) (by decide) (by decide) rfl rfl rfl (by decide) rfl fun w42 h Z => ?_
  refine Z.P rfl fun h Z => ?_
  refine Z.NI 43 6 1159 (by decide) (by decide) (by decide) (by decide) rfl rfl rfl (by decide) rfl fun w43 h Z => ?_
  refine Z.P rfl fun h Z => ?_
  refine Z.NI 44 6 1152 (by decide) (by decide) (by decide) (by decide) rfl rfl rfl (by decide) rfl fun w44 h Z => ?_
  refine Z.P rfl fun h Z => ?_
  refine Z.NI 45 6 1145 (by decide) (by decide) (by decide) (by decide) rfl rfl rfl (by decide) rfl fun w45 h Z => ?_
  refine Z.P rfl fun h Z => ?_
  refine Z.NI 46 72 1072 (by decide) (by decide) (by decide) (by decide) rfl rfl rfl (by decide) rfl fun w46 h Z => ?_
  refine Z.P rfl fun h Z => ?_
  refine Z.NI 47 288 783 (by decide) (by decide) (by decide) (by decide) rfl rfl rfl (by decide) rfl fun w47 h Z => ?_
  refine Z.P rfl fun h Z => ?_
  refine Z.NI 48 6 776 (by decide) (by decide) (by decide) (by decide) rfl rfl rfl (by decide) rfl fun w48 h Z => ?_
  refine Z.P rfl fun h Z => ?_
  refine Z.NI 49 24 751 (by decide) (by decide) (by decide) (by decide) rfl rfl rfl (by decide) rfl fun w49 h Z => ?_
  refine Z.P rfl fun h Z => ?_
  refine Z.NI 50 24 726 (by decide) (by decide) (by decide) (by decide) rfl rfl rfl (by decide) rfl fun w50 h Z => ?_
  refine Z.P rfl fun h Z => ?_
  refine Z.NI 51 24 701 (by decide) (by decide) (by decide) (by decide) rfl rfl rfl (by decide) rfl fun w51 h Z => ?_
  refine Z.P rfl fun h Z => ?_
  refine Z.NZ 56 3 697 (by decide) (by decide) (by decide) (by decide) rfl rfl rfl (by decide) rfl fun w56 h Z => ?_
  refine Z.P rfl fun h Z => ?_
  refine Z.NI 57 3 693 (by decide) (by decide) (by decide) (by decide) rfl rfl rfl (by decide) rfl fun w57 h Z => ?_
  refine Z.P rfl fun h Z => ?_
  refine Z.NI 58 36 656 (by decide) (by decide) (by decide) (by decide) rfl rfl rfl (by decide) rfl fun w58 h Z => ?_
  refine Z.P rfl fun h Z => ?_
  refine Z.NI 59 144 511 (by decide) (by decide) (by decide) (by decide) rfl rfl rfl (by decide) rfl fun w59 h Z => ?_
  refine Z.P rfl fun h Z => ?_
  refine Z.NI 60 3 507 (by decide) (by decide) (by decide) (by decide) rfl rfl rfl (by decide) rfl fun w60 h Z => ?_
  refine Z.P rfl fun h Z => ?_
  refine Z.NI 61 3 503 (by decide) (by decide) (by decide) (by decide) rfl rfl rfl (by decide) rfl fun w61 h Z => ?_
  refine Z.P rfl fun h Z => ?_
  refine Z.NI 64 12 490 (by decide) (by decide) (by decide) (by decide) rfl rfl rfl (by decide) rfl fun w64 h Z => ?_
  refine Z.P rfl fun h Z => ?_
  refine Z.NI 65 3 486 (by decide) (by decide) (by decide) (by decide) rfl rfl rfl (by decide) rfl fun w65 h Z => ?_
  refine Z.P rfl fun h Z => ?_
  refine Z.NI 66 144 341 (by decide) (by decide) (by decide) (by decide) rfl rfl rfl (by decide) rfl fun w66 h Z => ?_
  refine Z.P rfl fun h Z => ?_
  refine Z.NI 67 3 337 (by decide) (by decide) (by decide) (by decide) rfl rfl rfl (by decide) rfl fun w67 h Z => ?_
  refine Z.P rfl fun h Z => ?_
  refine Z.NI 70 120 216 (by decide) (by decide) (by decide) (by decide) rfl rfl rfl (by decide) rfl fun w70 h Z => ?_
  refine Z.P rfl fun h Z => ?_
  refine Z.NI 72 12 203 (by decide) (by decide) (by decide) (by decide) rfl rfl rfl (by decide) rfl fun w72 h Z => ?_
  refine Z.P rfl fun h Z => ?_
  refine Z.NI 73 12 190 (by decide) (by decide) (by decide) (by decide) rfl rfl rfl (by decide) rfl fun w73 h Z => ?_
  refine Z.P rfl fun h Z => ?_
  refine Z.NI 74 12 177 (by decide) (by decide) (by decide) (by decide) rfl rfl rfl (by decide) rfl fun w74 h Z => ?_
  refine Z.P rfl fun h Z => ?_
  refine Z.NI 77 120 56 (by decide) (by decide) (by decide) (by decide) rfl rfl rfl (by decide) rfl fun w77 h Z => ?_
  refine Z.P rfl fun h Z => ?_
  refine Z.S 79 (by decide) (by decide) fun h Z => ?_
  refine Z.NI 84 3 52 (by decide) (by decide) (by decide) (by decide) rfl rfl rfl (by decide) rfl fun w84 h Z => ?_
  refine Z.P rfl fun h Z => ?_
  refine Z.NI 86 4 47 (by decide) (by decide) (by decide) (by decide) rfl rfl rfl (by decide) rfl fun w86 h Z => ?_
  refine Z.P rfl fun h Z => ?_
  refine Z.NI 87 4 42 (by decide) (by decide) (by decide) (by decide) rfl rfl rfl (by decide) rfl fun w87 h Z => ?_
  refine Z.P rfl fun h Z => ?_
  refine Z.NI 88 4 37 (by decide) (by decide) (by decide) (by decide) rfl rfl rfl (by decide) rfl fun w88 h Z => ?_
  refine Z.P rfl fun h Z => ?_
  refine Z.NI 89 4 32 (by decide) (by decide) (by decide) (by decide) rfl rfl rfl (by decide) rfl fun w89 h Z => ?_
  refine Z.P rfl fun h Z => ?_
  refine Z.NI 90 4 27 (by decide) (by decide) (by decide) (by decide) rfl rfl rfl (by decide) rfl fun w90 h Z => ?_
  refine Z.P rfl fun h Z => ?_
  refine Z.NI 91 4 22 (by decide) (by decide) (by decide) (by decide) rfl rfl rfl (by decide) rfl fun w91 h Z => ?_
  refine Z.P rfl fun h Z => ?_
  refine Z.NI 92 4 17 (by decide) (by decide) (by decide) (by decide) rfl rfl rfl (by decide) rfl fun w92 h Z => ?_
  refine Z.P rfl fun h Z => ?_
  refine Z.NI 93 16 0 (by decide) (by decide) (by decide) (by decide) rfl rfl rfl (by decide) rfl fun w93 h Z => ?_
  refine Z.P rfl fun h Z => ?_
  exact hK _ _ Z.tw (fun k hk => ⟨Z.2.2.1 k hk (ar_94 k hk), Z.2.2.2.2.1 k hk (ar_94 k hk)⟩) (fun b b1 b2 => Z.2.2.2.2.2 b b1 fun k hk _ => b2 k hk)
