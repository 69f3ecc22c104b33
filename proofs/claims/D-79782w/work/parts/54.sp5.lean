/-! SP 5: change, remove, count, cell; stores and the time; the draft -/
set_option maxRecDepth 100000
abbrev kf_q (A : qkA) (k : Nat) (v : Int32) : qkA := sQ A (upd (aQ A) k v)
abbrev kf_ln (A : qkA) (l k : Nat) (v : Int32) : qkA := sLn A (qkU (aLn A) l (upd (aLn A l) k v))
abbrev kf_with (f : Nat → Int32) (col x : Int32) : Nat → Int32 := upd (va_cpy f (fun _ => 0) 0 0 4) col.toNatClampNeg x
/-- out of 0 .. n - 1 -/
def kf_out (v n : Int32) : Bool := decide (v < 0 ∨ ¬ v < n)
/-- out of lo .. hi -/
def kf_off (v lo hi : Int32) : Bool := decide (v < lo ∨ hi < v)
def kf_chg (A : qkA) (s k : Nat) (r : qkRow) (col x : Int32) : qkA := kf_written (sRow (kf_q A 13 (aQ A 13 + (if kf_kept (s / 2) col x = x then 0 else 1))) (qkU (aRow A) s ((aRow A s).set k (r.1, kf_with r.2 col (kf_kept (s / 2) col x))))) s
def kf_change (A : qkA) (v m col x : Int32) : Int32 × Int32 × qkA :=
  if v < 0 ∨ ¬ v < 6 then (1, 0, A) else
  match kf_at (aRow A v.toNatClampNeg) m with
  | none => (1, 0, A)
  | some k =>
    if col < 0 ∨ ¬ col < kf_cols (v.toNatClampNeg / 2) then (1, 0, A) else
    if ((decide (0 < col) || !kf_hasKey (v.toNatClampNeg / 2)) && kf_fit (v.toNatClampNeg / 2) col x) = false then (2, 0, A) else
    match (aRow A v.toNatClampNeg)[k]? with
    | none => (1, 0, A)
    | some r => (0, r.2 col.toNatClampNeg, kf_chg A v.toNatClampNeg k r col x)
def kf_remove (A : qkA) (v m : Int32) : Int32 × Int32 × qkA :=
  if v < 0 ∨ ¬ v < 6 then (1, 0, A) else
  match kf_at (aRow A v.toNatClampNeg) m with
  | none => (1, 0, A)
  | some k => (0, nI ((aRow A v.toNatClampNeg).eraseIdx k).length, kf_written (sRow A (qkU (aRow A) v.toNatClampNeg ((aRow A v.toNatClampNeg).eraseIdx k))) v.toNatClampNeg)
def kf_count (A : qkA) (v : Int32) : Int32 × Int32 := if v < 0 ∨ ¬ v < 6 then (1, 0) else (0, nI (aRow A v.toNatClampNeg).length)
def kf_cell (A : qkA) (v m col : Int32) : Int32 × Int32 :=
  if v < 0 ∨ ¬ v < 6 then (1, 0) else
  match kf_at (aRow A v.toNatClampNeg) m with
  | none => (1, 0)
  | some k =>
    if col < 0 ∨ ¬ col < kf_cols (v.toNatClampNeg / 2) then (1, 0) else
    match (aRow A v.toNatClampNeg)[k]? with
    | none => (1, 0)
    | some r => (0, r.2 col.toNatClampNeg)
section
variable {g : qh_G} {L : Nat → Nat} {J h : qc_H} {A : qkA} {c : Nat}
theorem kf_at_lt {rows : List qkRow} {m : Int32} {k : Nat} (h : kf_at rows m = some k) : ∃ hk : k < rows.length, rows[k].1 = m := by
  unfold kf_at at h
  rw [List.findIdx?_eq_some_iff_getElem] at h
  exact ⟨h.1, by simpa using h.2.1⟩
theorem kt_rowOf {s : Nat} {m : Int32} {K : Nat → Prop} {KX : String → Prop} (R : qkRep g L J h A) (hs : s < 6) (hc : 7 ≤ c) (h1 : ∀ k p r, kf_at (aRow A s) m = some k → (aRow A s)[k]? = some r → r.1 = m → isRow g J p r → K p) (h2 : kf_at (aRow A s) m = none → KX xI) : T_X1_rowOf g (L (16 + s)) m h c K KX := by
  unfold T_X1_rowOf
  have hlen := (R.rows hs).choose_spec.2.2
  refine ⟨⟨_, R.src hs⟩, kt_placeOf R hs ⟨_, _, R.src hs, rfl, rl_size (R.rows hs) (ek 7 hc (kt_known (Nat.le_refl 7) (fun c1 c2 => ?_) (fun z => h2 ?_)))⟩⟩
  · cases hq : kf_at (aRow A s) m with
    | none =>
      exfalso
      apply c1
      unfold kf_pl
      rw [hq]
      decide
    | some k =>
      obtain ⟨hk, hm⟩ := kf_at_lt hq
      have e : kf_pl (aRow A s) m = nI k := by unfold kf_pl; rw [hq]
      rw [e]
      refine ⟨_, _, R.src hs, rfl, rl_get (R.rows hs) rfl (List.getElem?_eq_getElem hk) fun y hy => ?_⟩
      obtain ⟨ca, y1, y2⟩ := hy
      exact ⟨⟨_, R.jh _ _ y1⟩, h1 k y _ hq (List.getElem?_eq_getElem hk) hm ⟨ca, y1, y2⟩⟩
  · cases hq : kf_at (aRow A s) m with
    | none => rfl
    | some k =>
      exfalso
      obtain ⟨hk, hm⟩ := kf_at_lt hq
      have e : kf_pl (aRow A s) m = nI k := by unfold kf_pl; rw [hq]
      rw [e] at z
      rcases z with z | z
      · exact nI_pos (by omega) z
      · exact z (nI_lt hk (by omega))
theorem kt_change {v m col x : Int32} {K : Int32 → qc_H → Prop} {KX : String → qc_H → Prop} (R : qkRep g L J h A) (hwl : ∀ s, s < 6 → (aWr A s).length ≤ 600) (hml : (aMsg A).length ≤ 600) {e0 : Nat} (he : (kf_change A v m col x).1 = 0 → e0 = 1900) (hc : 100 + e0 ≤ c) (hk : kO g L J h (kf_change A v m col x) [xI, xA] K KX) : T_X1_change g (L 0) v m col x h c K KX := by
  unfold T_X1_change
  refine ⟨⟨_, R.x⟩, ek 7 (by omega) (kt_sourceAt R (Nat.le_refl 7) (fun s hs hv hin => ?_) (fun z => ?_))⟩
  rotate_left
  · exact (hk J h qkJs.rf qkFr.rf (by unfold kf_change; rw [if_pos z]; exact R)).2 0 xI rfl (by unfold kf_change; rw [if_pos z]; rfl)
  unfold kf_change at hk he
  rw [if_neg hin] at hk he
  have hvs : v.toNatClampNeg = s := by rw [hv, nI_clamp (by omega)]
  rw [hvs] at hk he
  clear hin
  have hs3 : s / 2 < 3 := by omega
  refine ek 7 (by omega) (kt_rowOf R hs (Nat.le_refl 7) (fun k p r hat hr hrm hrow => ?_) (fun z => ?_))
  rotate_left
  · rw [z] at hk
    exact (hk J h qkJs.rf qkFr.rf R).2 0 xI rfl rfl
  simp only [hat, hr] at hk he
  refine ⟨_, _, R.src hs, rfl, _, _, R.line hs3, rfl, kt_columns R hs3 (ek 7 (by omega) (kt_known (Nat.le_refl 7) (fun c1 c2 => ?_) (fun z => ?_)))⟩
  rotate_left
  · rw [if_pos z] at hk
    exact (hk J h qkJs.rf qkFr.rf R).2 0 xI rfl rfl
  have hcol : ¬ (col < 0 ∨ ¬ col < kf_cols (s / 2)) := by rintro (z | z); exact c1 z; exact z c2
  rw [if_neg hcol] at hk he
  have hc4 : col < nI 4 := by
    unfold kf_cols at c2
    split at c2
    · exact Int32.lt_trans c2 (by decide)
    · exact c2
  obtain ⟨j, hj, hjc⟩ := ix_of 4 (by decide) c1 hc4
  intro J23 hJ23
  have bad : ((decide (0 < col) || !kf_hasKey (s / 2)) && kf_fit (s / 2) col x) = false → J23 0 := by
    intro z
    rw [if_pos z] at hk
    exact hJ23 0 (ek 7 (by omega) (kt_fit (Nat.le_refl 7) (fun z => absurd rfl z) (fun _ => (hk J h qkJs.rf qkFr.rf R).2 1 xA rfl rfl)))
  have good : ((decide (0 < col) || !kf_hasKey (s / 2)) && kf_fit (s / 2) col x) = true → J23 1 := by
    intro z
    rw [if_neg (by rw [z]; decide)] at hk he
    have he1 := he rfl
    refine hJ23 1 (ek 7 (by omega) (kt_fit (Nat.le_refl 7) (fun _ => ?_) (fun z => absurd z (by decide))))
    refine kt_kept R hs3 ⟨_, aQ A 13, R.x, rfl, fun J30 hJ30 => ?_⟩
    have fin : J30 (if kf_kept (s / 2) col x = x then 0 else 1) := by
      refine hJ30 _ (kx_put R (by omega) rfl fun h1 R1 F1 => ?_)
      obtain ⟨ca, r1, r2⟩ := hrow
      refine ⟨⟨_, R1.jh _ _ r1⟩, ek 12 (by omega) ?_⟩
      unfold T_X9_with
      refine ⟨by decide, by decide, 7, by decide, fun w hw => ?_⟩
      have R2 := R1.other (e := .inl (.inl (g.2.2.2.1 0, 4, .inl fun _ => 0))) (R1.fresh hw) (R1.Jn hw)
      refine ⟨_, _, R2.jh _ _ r1, rfl, 4, 4, _, _, R2.jh _ _ r2, qc_up_s, by decide, by decide, by decide, by decide, by decide, ?_⟩
      refine ⟨_, _, qc_up_s, by rw [hjc]; exact vp_in_nI hj (by decide), ?_⟩
      simp only [qc_up_up]
      rw [show (0 : Int32).toNatClampNeg = 0 from rfl, show (4 : Int32).toNatClampNeg = 4 from rfl]
      obtain ⟨q1, q2, q3⟩ := kt_keep (e := .inl (g.2.2.2.1 0, 4, .inl (kf_with r.2 col (kf_kept (s / 2) col x)))) R1 hw
      generalize qc_up h1 w (.inl (.inl (g.2.2.2.1 0, 4, .inl (kf_with r.2 col (kf_kept (s / 2) col x))))) = h3 at q2 q3 ⊢
      refine ⟨4, by decide, fun wr hwr => ?_⟩
      have q2o := q2.other (e := .inl (.inr (8, [.int 0, .null]))) (q2.fresh hwr) (q2.Jn hwr)
      refine ⟨_, r.1, q2o.jh _ _ (q1.1 _ _ r1), rfl, ki_X9 ?_⟩
      obtain ⟨k1, k2, k3⟩ := kt_keep (e := .inr (8, [.int r.1, .ref w])) q2 hwr
      have hne : w ≠ wr := by
        intro z1
        have := q2.jh w _ qc_up_s
        rw [z1, hwr] at this
        cases this
      have hrow2 : isRow g (qc_up (qc_up J w (.inl (.inl (g.2.2.2.1 0, 4, .inl (kf_with r.2 col (kf_kept (s / 2) col x)))))) wr (.inl (.inr (8, [.int r.1, .ref w])))) wr (r.1, kf_with r.2 col (kf_kept (s / 2) col x)) := ⟨w, qc_up_s, by rw [qc_up_n hne]; exact qc_up_s⟩
      refine ⟨⟨_, k2.x⟩, ek 1828 (by omega) ?_⟩
      unfold T_X1_replace
      obtain ⟨ca2, r3, r4⟩ := hrow2
      refine ⟨_, _, k2.src hs, rfl, _, r.1, k2.jh _ _ r3, rfl, ⟨_, k2.src hs⟩, kt_placeOf k2 hs ?_⟩
      have hpl : kf_pl (aRow A s) r.1 = nI k := by rw [hrm]; unfold kf_pl; rw [hat]
      rw [show kf_pl (aRow (sQ A (upd (aQ A) 13 (aQ A 13 + if kf_kept (s / 2) col x = x then 0 else 1))) s) r.1 = nI k from hpl]
      refine rl_set (w := (r.1, kf_with r.2 col (kf_kept (s / 2) col x))) (k2.rows hs) rfl hr (k2.jh _ _ r3) (Or.inl rfl) ⟨ca2, r3, r4⟩ fun z xs _ hx => ?_
      have hlen := (R.rows hs).choose_spec.2.2
      have R4 := k2.pRow hs hx (by rw [List.length_set]; exact hlen)
      refine ⟨⟨_, R4.x⟩, ek 1828 (by omega) (kt_written R4 hs (hwl s hs) hml (Nat.le_refl _) fun J7 h7 k7 R7 F7 => ?_)⟩
      refine ⟨_, _, R7.jh _ _ (k7.1 _ _ (k1.1 _ _ (q1.1 _ _ r1))), rfl, 4, r.2, R7.jh _ _ (k7.1 _ _ (k1.1 _ _ (q1.1 _ _ r2))), by rw [hjc]; exact vp_in_nI hj (by decide), ?_⟩
      exact (hk J7 h7 ((q1.tr k1).tr k7) ((((F1.tr q3).tr k3).tr (qkFr.up (by omega))).tr F7) R7).1 rfl
    refine ⟨fun z => ?_, fun z => ?_⟩
    · rw [if_pos z] at fin
      exact fin
    · rw [if_neg z] at fin
      exact fin
  refine ⟨fun z => kt_isFit R hs3 ⟨fun z1 => bad ?_, fun z1 => good ?_⟩, fun z => kt_hasKey R hs3 ⟨fun z1 => bad ?_, fun z1 => kt_isFit R hs3 ⟨fun z2 => bad ?_, fun z2 => good ?_⟩⟩⟩
  · simp [b2_eq0.mp z1]
  · simp [b2_n0.mp z1, z]
  · simp [b2_n0.mp z1, z]
  · simp [b2_eq0.mp z2]
  · simp [b2_n0.mp z2, b2_eq0.mp z1]
theorem kt_remove {v m : Int32} {K : Int32 → qc_H → Prop} {KX : String → qc_H → Prop} (R : qkRep g L J h A) (hwl : ∀ s, s < 6 → (aWr A s).length ≤ 600) (hml : (aMsg A).length ≤ 600) {e0 : Nat} (he : (kf_remove A v m).1 = 0 → e0 = 1900) (hc : 100 + e0 ≤ c) (hk : kO g L J h (kf_remove A v m) [xI] K KX) : T_X1_remove g (L 0) v m h c K KX := by
  unfold T_X1_remove
  refine ⟨⟨_, R.x⟩, ek 7 (by omega) (kt_sourceAt R (Nat.le_refl 7) (fun s hs hv hin => ?_) (fun z => ?_))⟩
  rotate_left
  · exact (hk J h qkJs.rf qkFr.rf (by unfold kf_remove; rw [if_pos z]; exact R)).2 0 xI rfl (by unfold kf_remove; rw [if_pos z]; rfl)
  unfold kf_remove at hk he
  rw [if_neg hin] at hk he
  have hvs : v.toNatClampNeg = s := by rw [hv, nI_clamp (by omega)]
  rw [hvs] at hk he
  refine ek 7 (by omega) (kt_rowOf R hs (Nat.le_refl 7) (fun k p r hat hr hrm hrow => ?_) (fun z => ?_))
  rotate_left
  · rw [z] at hk
    exact (hk J h qkJs.rf qkFr.rf R).2 0 xI rfl rfl
  simp only [hat] at hk he
  have he1 := he trivial
  have hpl : kf_pl (aRow A s) m = nI k := by unfold kf_pl; rw [hat]
  refine ⟨_, _, R.src hs, rfl, ⟨_, R.src hs⟩, kt_placeOf R hs ?_⟩
  rw [hpl]
  refine rl_rem (R.rows hs) rfl hr fun z xs _ hx => ?_
  have hlen := (R.rows hs).choose_spec.2.2
  have hle := List.length_eraseIdx_le (aRow A s) k
  have R1 := R.pRow hs hx (by omega)
  refine ⟨⟨_, R1.x⟩, ek 1828 (by omega) (kt_written R1 hs (hwl s hs) hml (Nat.le_refl _) fun J7 h7 k7 R7 F7 => ?_)⟩
  refine ⟨_, _, R7.src hs, rfl, rl_size (R7.rows hs) ?_⟩
  have e : aRow (kf_written (sRow A (qkU (aRow A) s ((aRow A s).eraseIdx k))) s) s = (aRow A s).eraseIdx k := qkU_s
  rw [e]
  exact (hk J7 h7 k7 ((qkFr.up (by omega)).tr F7) R7).1 rfl
theorem kt_count {v : Int32} {K : Int32 → Prop} {KX : String → Prop} (R : qkRep g L J h A) (hc : 7 ≤ c) (hk : kP (kf_count A v) [xI] K KX) : T_X1_count g (L 0) v h c K KX := by
  unfold T_X1_count
  refine ⟨⟨_, R.x⟩, ek 7 (by omega) (kt_sourceAt R (Nat.le_refl 7) (fun s hs hv hin => ?_) (fun z => ?_))⟩
  · unfold kf_count at hk
    rw [if_neg hin, hv, nI_clamp (by omega)] at hk
    exact ⟨_, _, R.src hs, rfl, rl_size (R.rows hs) (hk.1 rfl)⟩
  · unfold kf_count at hk
    rw [if_pos z] at hk
    exact hk.2 0 xI rfl rfl
theorem kt_cell {v m col : Int32} {K : Int32 → Prop} {KX : String → Prop} (R : qkRep g L J h A) (hc : 21 ≤ c) (hk : kP (kf_cell A v m col) [xI] K KX) : T_X1_cell g (L 0) v m col h c K KX := by
  unfold T_X1_cell
  refine ⟨⟨_, R.x⟩, ek 7 (by omega) (kt_sourceAt R (Nat.le_refl 7) (fun s hs hv hin => ?_) (fun z => ?_))⟩
  rotate_left
  · unfold kf_cell at hk
    rw [if_pos z] at hk
    exact hk.2 0 xI rfl rfl
  unfold kf_cell at hk
  rw [if_neg hin, hv, nI_clamp (by omega)] at hk
  have hs3 : s / 2 < 3 := by omega
  refine ek 7 (by omega) (kt_rowOf R hs (Nat.le_refl 7) (fun k p r hat hr hrm hrow => ?_) (fun z => ?_))
  rotate_left
  · rw [z] at hk
    exact hk.2 0 xI rfl rfl
  simp only [hat, hr] at hk
  obtain ⟨ca, r1, r2⟩ := hrow
  refine ⟨_, _, R.jh _ _ r1, rfl, _, _, R.src hs, rfl, _, _, R.line hs3, rfl, kt_columns R hs3 (ek 7 (by omega) (kt_known (Nat.le_refl 7) (fun c1 c2 => ?_) (fun z => ?_)))⟩
  · have hcol : ¬ (col < 0 ∨ ¬ col < kf_cols (s / 2)) := by rintro (z | z); exact c1 z; exact z c2
    rw [if_neg hcol] at hk
    have hc4 : col < nI 4 := by
      unfold kf_cols at c2
      split at c2
      · exact Int32.lt_trans c2 (by decide)
      · exact c2
    obtain ⟨j, hj, hjc⟩ := ix_of 4 (by decide) c1 hc4
    exact ⟨4, r.2, R.jh _ _ r2, by rw [hjc]; exact vp_in_nI hj (by decide), hk.1 rfl⟩
  · rw [if_pos z] at hk
    exact hk.2 0 xI rfl rfl
end
