/-! SP 6: stores and the time; the draft -/
set_option maxRecDepth 100000
def kf_setPace (A : qkA) (v d l : Int32) : Int32 × Int32 × qkA :=
  if v < 0 ∨ ¬ v < 3 then (1, 0, A) else if (d < 0 ∨ 30 < d) ∨ (l < 0 ∨ 60 < l) then (2, 0, A) else
  (0, aLn A v.toNatClampNeg 1, kf_ln (kf_ln A v.toNatClampNeg 1 d) v.toNatClampNeg 2 l)
def kf_setBounds (A : qkA) (v d l : Int32) : Int32 × Int32 × qkA :=
  if v < 0 ∨ ¬ v < 3 then (1, 0, A) else if (d < 1 ∨ 20 < d) ∨ (l < 0 ∨ 12 < l) then (2, 0, A) else
  (0, aLn A v.toNatClampNeg 3, kf_ln (kf_ln A v.toNatClampNeg 3 d) v.toNatClampNeg 4 l)
def kf_setLease (A : qkA) (v l : Int32) : Int32 × Int32 × qkA :=
  if v < 0 ∨ ¬ v < 3 then (1, 0, A) else if l < 0 ∨ 200 < l then (2, 0, A) else
  (0, aLn A v.toNatClampNeg 5, kf_goTo (kf_ln A v.toNatClampNeg 5 l) (aQ A 15))
def kf_fail (A : qkA) (v n d : Int32) : Int32 × Int32 × qkA :=
  if v < 0 ∨ ¬ v < 3 then (1, 0, A) else if n < 0 ∨ 20 < n then (2, 0, A) else
  (0, aLn A v.toNatClampNeg 6, kf_ln (kf_ln A v.toNatClampNeg 6 n) v.toNatClampNeg 7 d)
def kf_forbid (A : qkA) (v t d : Int32) : Int32 × Int32 × qkA :=
  if v < 0 ∨ ¬ v < 6 then (1, 0, A) else if t < 0 ∨ ¬ t < 3 then (1, 0, A) else
  (0, aFb A v.toNatClampNeg t.toNatClampNeg, sFb A (qkU (aFb A) v.toNatClampNeg (upd (aFb A v.toNatClampNeg) t.toNatClampNeg d)))
def kf_pass (A : qkA) (v : Int32) : Int32 × Int32 × qkA := if v < 1 ∨ 100 < v then (1, 0, A) else (0, aQ A 15 + v, kf_goTo A (aQ A 15 + v))
def kf_seat (A : qkA) (v : Int32) : Int32 × Int32 × qkA :=
  if v < 0 ∨ ¬ v < 6 then (1, 0, A) else if 3 ≤ (aSeat A).length then (2, 0, A) else (0, nI (aSeat A).length, sSeat A (aSeat A ++ [v]))
/-- the source of a drafted seat -/
def kf_src (A : qkA) (n : Nat) : Nat := ((aSeat A)[n]?.getD 0).toNatClampNeg
/-- a seat and a column of it, unknown -/
def kf_kc (A : qkA) (seat col : Int32) : Bool := decide ((seat < 0 ∨ ¬ seat < nI (aSeat A).length) ∨ (col < 0 ∨ ¬ col < kf_cols (kf_src A seat.toNatClampNeg / 2)))
def kf_link (A : qkA) (a b c d : Int32) : Int32 × Int32 × qkA :=
  if kf_kc A a b = true then (1, 0, A) else if kf_kc A c d = true then (1, 0, A) else if c ≤ a then (2, 0, A) else if 3 ≤ (aLink A).length then (3, 0, A) else
  (0, nI ((aLink A).length + 1), sLink A (aLink A ++ [(a, b, c, d)]))
def kf_where (A : qkA) (a b k n : Int32) : Int32 × Int32 × qkA :=
  if kf_kc A a b = true then (1, 0, A) else if k < 0 ∨ 4 < k then (2, 0, A) else if (if 2 < k then decide (n = 0) else kf_num n) = false then (2, 0, A) else if 4 ≤ (aCond A).length then (3, 0, A) else
  (0, nI ((aCond A).length + 1), sCond A (aCond A ++ [(a, b, k, n)]))
def kf_outp (A : qkA) (a b : Int32) : Int32 × Int32 × qkA :=
  if kf_kc A a b = true then (1, 0, A) else if 3 ≤ (aOut A).length then (2, 0, A) else
  (0, nI ((aOut A).length + 1), sOut A (aOut A ++ [(a, b)]))
def kf_shape (A : qkA) (a b : Int32) : Int32 × qkA := if a < 1 ∨ 40 < a then (1, A) else (0, kf_q (kf_q A 10 a) 11 b)
def kf_clear (A : qkA) : qkA := kf_q (kf_q (sOut (sCond (sLink (sSeat A []) []) []) []) 10 40) 11 0
section
variable {g : qh_G} {L : Nat → Nat} {J h : qc_H} {A : qkA} {c : Nat}
theorem kt_setPace {v d l : Int32} {K : Int32 → qc_H → Prop} {KX : String → qc_H → Prop} (R : qkRep g L J h A) (hc : 21 ≤ c) (hk : kO g L J h (kf_setPace A v d l) [xI, xA] K KX) : T_X1_setPace g (L 0) v d l h c K KX := by
  unfold T_X1_setPace
  refine ⟨⟨_, R.x⟩, ek 7 (by omega) (kt_lineAt R (Nat.le_refl 7) (fun s hs hv hin => ?_) (fun z => ?_))⟩
  rotate_left
  · exact (hk J h qkJs.rf qkFr.rf (by unfold kf_setPace; rw [if_pos z]; exact R)).2 0 xI rfl (by unfold kf_setPace; rw [if_pos z]; rfl)
  unfold kf_setPace at hk
  rw [if_neg hin, hv, nI_clamp (by omega)] at hk
  refine ek 7 (by omega) (kt_inRange (Nat.le_refl 7) (fun c1 c2 => ek 7 (by omega) (kt_inRange (Nat.le_refl 7) (fun c3 c4 => ?_) (fun z => ?_))) (fun z => ?_))
  · rw [if_neg (by rintro ((z | z) | (z | z)); exact c1 z; exact c2 z; exact c3 z; exact c4 z)] at hk
    refine ⟨_, aLn A s 1, R.line hs, rfl, kl_put R hs (by omega) rfl fun h1 R1 F1 => kl_put R1 hs (by omega) rfl fun h2 R2 F2 => ?_⟩
    exact (hk J h2 qkJs.rf (F1.tr F2) R2).1 rfl
  · rw [if_pos (Or.inr z)] at hk
    exact (hk J h qkJs.rf qkFr.rf R).2 1 xA rfl rfl
  · rw [if_pos (Or.inl z)] at hk
    exact (hk J h qkJs.rf qkFr.rf R).2 1 xA rfl rfl
theorem kt_setBounds {v d l : Int32} {K : Int32 → qc_H → Prop} {KX : String → qc_H → Prop} (R : qkRep g L J h A) (hc : 21 ≤ c) (hk : kO g L J h (kf_setBounds A v d l) [xI, xA] K KX) : T_X1_setBounds g (L 0) v d l h c K KX := by
  unfold T_X1_setBounds
  refine ⟨⟨_, R.x⟩, ek 7 (by omega) (kt_lineAt R (Nat.le_refl 7) (fun s hs hv hin => ?_) (fun z => ?_))⟩
  rotate_left
  · exact (hk J h qkJs.rf qkFr.rf (by unfold kf_setBounds; rw [if_pos z]; exact R)).2 0 xI rfl (by unfold kf_setBounds; rw [if_pos z]; rfl)
  unfold kf_setBounds at hk
  rw [if_neg hin, hv, nI_clamp (by omega)] at hk
  refine ek 7 (by omega) (kt_inRange (Nat.le_refl 7) (fun c1 c2 => ek 7 (by omega) (kt_inRange (Nat.le_refl 7) (fun c3 c4 => ?_) (fun z => ?_))) (fun z => ?_))
  · rw [if_neg (by rintro ((z | z) | (z | z)); exact c1 z; exact c2 z; exact c3 z; exact c4 z)] at hk
    refine ⟨_, aLn A s 3, R.line hs, rfl, kl_put R hs (by omega) rfl fun h1 R1 F1 => kl_put R1 hs (by omega) rfl fun h2 R2 F2 => ?_⟩
    exact (hk J h2 qkJs.rf (F1.tr F2) R2).1 rfl
  · rw [if_pos (Or.inr z)] at hk
    exact (hk J h qkJs.rf qkFr.rf R).2 1 xA rfl rfl
  · rw [if_pos (Or.inl z)] at hk
    exact (hk J h qkJs.rf qkFr.rf R).2 1 xA rfl rfl
theorem kt_setLease {v l : Int32} {K : Int32 → qc_H → Prop} {KX : String → qc_H → Prop} (R : qkRep g L J h A) (hc : 21 ≤ c) (hk : kO g L J h (kf_setLease A v l) [xI, xA] K KX) : T_X1_setLease g (L 0) v l h c K KX := by
  unfold T_X1_setLease
  refine ⟨⟨_, R.x⟩, ek 7 (by omega) (kt_lineAt R (Nat.le_refl 7) (fun s hs hv hin => ?_) (fun z => ?_))⟩
  rotate_left
  · exact (hk J h qkJs.rf qkFr.rf (by unfold kf_setLease; rw [if_pos z]; exact R)).2 0 xI rfl (by unfold kf_setLease; rw [if_pos z]; rfl)
  unfold kf_setLease at hk
  rw [if_neg hin, hv, nI_clamp (by omega)] at hk
  refine ek 7 (by omega) (kt_inRange (Nat.le_refl 7) (fun c1 c2 => ?_) (fun z => ?_))
  · rw [if_neg (by rintro (z | z); exact c1 z; exact c2 z)] at hk
    refine ⟨_, aLn A s 5, R.line hs, rfl, kl_put R hs (by omega) rfl fun h1 R1 F1 => ⟨_, aQ A 15, R1.x, rfl, ⟨_, R1.x⟩, kt_goTo R1 fun h2 R2 F2 => ?_⟩⟩
    exact (hk J h2 qkJs.rf (F1.tr F2) R2).1 rfl
  · rw [if_pos z] at hk
    exact (hk J h qkJs.rf qkFr.rf R).2 1 xA rfl rfl
theorem kt_fail {v n d : Int32} {K : Int32 → qc_H → Prop} {KX : String → qc_H → Prop} (R : qkRep g L J h A) (hd : d = 0 ∨ d = 1) (hc : 21 ≤ c) (hk : kO g L J h (kf_fail A v n d) [xI, xA] K KX) : T_X1_fail g (L 0) v n d h c K KX := by
  unfold T_X1_fail
  refine ⟨⟨_, R.x⟩, ek 7 (by omega) (kt_lineAt R (Nat.le_refl 7) (fun s hs hv hin => ?_) (fun z => ?_))⟩
  rotate_left
  · exact (hk J h qkJs.rf qkFr.rf (by unfold kf_fail; rw [if_pos z]; exact R)).2 0 xI rfl (by unfold kf_fail; rw [if_pos z]; rfl)
  unfold kf_fail at hk
  rw [if_neg hin, hv, nI_clamp (by omega)] at hk
  refine ek 7 (by omega) (kt_inRange (Nat.le_refl 7) (fun c1 c2 => ?_) (fun z => ?_))
  · rw [if_neg (by rintro (z | z); exact c1 z; exact c2 z)] at hk
    refine ⟨_, aLn A s 6, R.line hs, rfl, kl_put R hs (by omega) rfl fun h1 R1 F1 => ⟨hd, kl_put R1 hs (by omega) rfl fun h2 R2 F2 => ?_⟩⟩
    exact (hk J h2 qkJs.rf (F1.tr F2) R2).1 rfl
  · rw [if_pos z] at hk
    exact (hk J h qkJs.rf qkFr.rf R).2 1 xA rfl rfl
theorem kt_forbid {v t d : Int32} {K : Int32 → qc_H → Prop} {KX : String → qc_H → Prop} (R : qkRep g L J h A) (hd : d = 0 ∨ d = 1) (hb : ∀ s, s < 6 → ∀ t, t < 3 → aFb A s t = 0 ∨ aFb A s t = 1) (hc : 21 ≤ c) (hk : kO g L J h (kf_forbid A v t d) [xI] K KX) : T_X1_forbid g (L 0) v t d h c K KX := by
  unfold T_X1_forbid
  refine ek 7 (by omega) (kt_known (Nat.le_refl 7) (fun c1 c2 => ek 7 (by omega) (kt_known (Nat.le_refl 7) (fun c3 c4 => ?_) (fun z => ?_))) (fun z => ?_))
  · obtain ⟨s, hs, rfl⟩ := ix_of 6 (by decide) c1 c2
    obtain ⟨t, ht, rfl⟩ := ix_of 3 (by decide) c3 c4
    unfold kf_forbid at hk
    rw [if_neg (by rintro (z | z); exact c1 z; exact z c2), if_neg (by rintro (z | z); exact c3 z; exact z c4), nI_clamp (by omega), nI_clamp (by omega)] at hk
    refine ⟨_, _, R.x, rfl, _, _, L (4 + s), R.fbs, vp_in_nI hs (by decide), by rw [nI_clamp (by omega)], _, _, R.fb hs, vp_in_nI ht (by decide), _, _, R.x, rfl, _, _, L (4 + s), R.fbs, vp_in_nI hs (by decide), by rw [nI_clamp (by omega)], hd, _, _, R.fb hs, vp_in_nI ht (by decide), ?_⟩
    rw [nI_clamp (by omega)]
    exact ⟨hb s hs t ht, (hk J _ qkJs.rf (qkFr.up (by omega)) (R.pFb hs)).1 rfl⟩
  · unfold kf_forbid at hk
    rw [if_neg (by rintro (z | z); exact c1 z; exact z c2), if_pos z] at hk
    exact (hk J h qkJs.rf qkFr.rf R).2 0 xI rfl rfl
  · unfold kf_forbid at hk
    rw [if_pos z] at hk
    exact (hk J h qkJs.rf qkFr.rf R).2 0 xI rfl rfl
theorem kt_pass {v : Int32} {K : Int32 → qc_H → Prop} {KX : String → qc_H → Prop} (R : qkRep g L J h A) (hc : 21 ≤ c) (hk : kO g L J h (kf_pass A v) [xA] K KX) : T_X1_pass g (L 0) v h c K KX := by
  unfold T_X1_pass
  refine ek 7 (by omega) (kt_inRange (Nat.le_refl 7) (fun c1 c2 => ?_) (fun z => ?_))
  · unfold kf_pass at hk
    rw [if_neg (by rintro (z | z); exact c1 z; exact c2 z)] at hk
    refine ⟨_, aQ A 15, R.x, rfl, ⟨_, R.x⟩, kt_goTo R fun h1 R1 F1 => ⟨_, aQ A 15 + v, R1.x, rfl, ?_⟩⟩
    exact (hk J h1 qkJs.rf F1 R1).1 rfl
  · unfold kf_pass at hk
    rw [if_pos z] at hk
    exact (hk J h qkJs.rf qkFr.rf R).2 0 xA rfl rfl
theorem kt_seat {v : Int32} {K : Int32 → qc_H → Prop} {KX : String → qc_H → Prop} (R : qkRep g L J h A) (hc : 40 ≤ c) (hk : kO g L J h (kf_seat A v) [xI, xS] K KX) : T_X1_seat g (L 0) v h c K KX := by
  unfold T_X1_seat
  have hlen := R.seats.choose_spec.2.2
  refine ek 7 (by omega) (kt_known (Nat.le_refl 7) (fun c1 c2 => ?_) (fun z => ?_))
  · unfold kf_seat at hk
    rw [if_neg (by rintro (z | z); exact c1 z; exact z c2)] at hk
    refine ⟨_, _, R.x, rfl, rl_size R.seats fun J7 hJ7 => ⟨fun z => ?_, fun z => ?_⟩⟩
    · rw [if_pos ((nI_leI (a := 3) (by decide) (by omega)).mp z)] at hk
      exact hJ7 0 (ek 7 (by omega) (kt_allowed (Nat.le_refl 7) (fun z => absurd rfl z) (fun _ => (hk J h qkJs.rf qkFr.rf R).2 1 xS rfl rfl)))
    · have hlt : ¬ 3 ≤ (aSeat A).length := fun q => z ((nI_leI (a := 3) (by decide) (by omega)).mpr q)
      rw [if_neg hlt] at hk
      refine hJ7 1 (ek 7 (by omega) (kt_allowed (Nat.le_refl 7) (fun _ => ?_) (fun z => absurd z (by decide))))
      refine ⟨_, _, R.x, rfl, kt_box R (by omega) fun w J1 k1 R1 F1 hi => ?_⟩
      refine rl_add R1.seats qc_up_s (Or.inr (Or.inr (Or.inr (Or.inr (Or.inr (Or.inr (Or.inr rfl))))))) hi (by omega) fun xs hx => ?_
      have R2 := R1.pSeat hx (by rw [List.length_append]; show (aSeat A).length + 1 ≤ _; omega)
      refine ⟨_, _, R2.x, rfl, rl_size R2.seats ?_⟩
      have e : nI (aSeat A ++ [v]).length - 1 = nI (aSeat A).length := by rw [List.length_append]; exact nI_pred _
      rw [show aSeat (sSeat A (aSeat A ++ [v])) = aSeat A ++ [v] from rfl, e]
      exact (hk J1 _ k1 (F1.tr (qkFr.up (by omega))) R2).1 rfl
  · unfold kf_seat at hk
    rw [if_pos z] at hk
    exact (hk J h qkJs.rf qkFr.rf R).2 0 xI rfl rfl
theorem kt_knownColumn {seat col : Int32} {K : Prop} {KX : String → Prop} (R : qkRep g L J h A) (hsrc : ∀ (n : Nat) (v : Int32), (aSeat A)[n]? = some v → ∃ s, s < 6 ∧ v = nI s) (hc : 21 ≤ c) (h1 : kf_kc A seat col = false → K) (h2 : kf_kc A seat col = true → KX xI) : T_X1_knownColumn g (L 0) seat col h c K KX := by
  unfold T_X1_knownColumn
  have hlen := R.seats.choose_spec.2.2
  refine ⟨⟨_, R.x⟩, ek 7 (by omega) ?_⟩
  unfold T_X1_seatAt
  refine ⟨_, _, R.x, rfl, _, _, R.x, rfl, _, _, R.x, rfl, rl_size R.seats (ek 7 (by omega) (kt_known (Nat.le_refl 7) (fun c1 c2 => ?_) (fun z => h2 ?_)))⟩
  · obtain ⟨n, hn, rfl⟩ := ix_of _ (by omega) c1 c2
    have hg := List.getElem?_eq_getElem hn
    refine rl_get R.seats rfl hg fun y hy => ?_
    obtain ⟨s, hs, hv⟩ := hsrc n _ hg
    have y1 : J y = some (.inl (.inr (17, [.int (aSeat A)[n]]))) := hy
    have e : kf_src A (nI n).toNatClampNeg = s := by
      unfold kf_src
      rw [nI_clamp (by omega), hg, hv]
      exact nI_clamp (by omega)
    refine ⟨⟨_, R.jh _ _ y1⟩, _, R.jh _ _ y1, ?_⟩
    rw [hv]
    refine ⟨_, _, L (16 + s), R.srcs, vp_in_nI hs (by decide), by rw [nI_clamp (by omega)], ?_⟩
    refine ⟨_, _, R.src hs, rfl, _, _, R.line (by omega), rfl, kt_columns R (by omega) (ek 7 (by omega) (kt_known (Nat.le_refl 7) (fun c3 c4 => h1 ?_) (fun z => h2 ?_)))⟩
    · unfold kf_kc
      rw [e]
      exact decide_eq_false (by rintro ((z | z) | (z | z)); exact c1 z; exact z c2; exact c3 z; exact z c4)
    · unfold kf_kc
      rw [e]
      exact decide_eq_true (Or.inr z)
  · unfold kf_kc
    exact decide_eq_true (Or.inl z)
theorem kt_link {a b c' d : Int32} {K : Int32 → qc_H → Prop} {KX : String → qc_H → Prop} (R : qkRep g L J h A) (hsrc : ∀ (n : Nat) (v : Int32), (aSeat A)[n]? = some v → ∃ s, s < 6 ∧ v = nI s) (hc : 100 ≤ c) (hk : kO g L J h (kf_link A a b c' d) [xI, xA, xS] K KX) : T_X1_link g (L 0) a b c' d h c K KX := by
  unfold T_X1_link
  have hlen := R.links.choose_spec.2.2
  unfold kf_link at hk
  refine ⟨⟨_, R.x⟩, ek 21 (by omega) (kt_knownColumn R hsrc (Nat.le_refl 21) (fun q1 => ⟨⟨_, R.x⟩, ek 21 (by omega) (kt_knownColumn R hsrc (Nat.le_refl 21) (fun q2 => ?_) (fun q2 => ?_))⟩) (fun q1 => ?_))⟩
  · rw [if_neg (by rw [q1]; decide), if_neg (by rw [q2]; decide)] at hk
    intro J6 hJ6
    refine ⟨fun z => hJ6 0 (ek 7 (by omega) (kt_fit (Nat.le_refl 7) (fun z => absurd rfl z) (fun _ => ?_))), fun z => hJ6 1 (ek 7 (by omega) (kt_fit (Nat.le_refl 7) (fun _ => ?_) (fun z => absurd z (by decide))))⟩
    · rw [if_pos z] at hk
      exact (hk J h qkJs.rf qkFr.rf R).2 1 xA rfl rfl
    · rw [if_neg z] at hk
      refine ⟨_, _, R.x, rfl, rl_size R.links fun J7 hJ7 => ⟨fun z => ?_, fun z => ?_⟩⟩
      · rw [if_pos ((nI_leI (a := 3) (by decide) (by omega)).mp z)] at hk
        exact hJ7 0 (ek 7 (by omega) (kt_allowed (Nat.le_refl 7) (fun z => absurd rfl z) (fun _ => (hk J h qkJs.rf qkFr.rf R).2 2 xS rfl rfl)))
      · have hlt : ¬ 3 ≤ (aLink A).length := fun q => z ((nI_leI (a := 3) (by decide) (by omega)).mpr q)
        rw [if_neg hlt] at hk
        refine hJ7 1 (ek 7 (by omega) (kt_allowed (Nat.le_refl 7) (fun _ => ?_) (fun z => absurd z (by decide))))
        refine ⟨_, _, R.x, rfl, c - 21 - 21 - 7 - 7 - 5, by omega, fun w hw => ki_X11 ?_⟩
        obtain ⟨k1, R1, F1⟩ := kt_keep (e := .inr (10, [.int a, .int b, .int c', .int d])) R hw
        refine rl_add (w := (a, b, c', d)) R1.links qc_up_s (Or.inr (Or.inr (Or.inl rfl))) qc_up_s (by omega) fun xs hx => ?_
        have R2 := R1.pLink hx (by rw [List.length_append]; show (aLink A).length + 1 ≤ _; omega)
        refine ⟨_, _, R2.x, rfl, rl_size R2.links ?_⟩
        rw [show aLink (sLink A (aLink A ++ [(a, b, c', d)])) = aLink A ++ [(a, b, c', d)] from rfl, List.length_append]
        exact (hk _ _ k1 (F1.tr (qkFr.up (by omega))) R2).1 rfl
  · rw [if_neg (by rw [q1]; decide), if_pos q2] at hk
    exact (hk J h qkJs.rf qkFr.rf R).2 0 xI rfl rfl
  · rw [if_pos q1] at hk
    exact (hk J h qkJs.rf qkFr.rf R).2 0 xI rfl rfl
theorem kt_where {a b k n : Int32} {K : Int32 → qc_H → Prop} {KX : String → qc_H → Prop} (R : qkRep g L J h A) (hsrc : ∀ (n : Nat) (v : Int32), (aSeat A)[n]? = some v → ∃ s, s < 6 ∧ v = nI s) (hc : 100 ≤ c) (hk : kO g L J h (kf_where A a b k n) [xI, xA, xS] K KX) : T_X1_where g (L 0) a b k n h c K KX := by
  unfold T_X1_where
  have hlen := R.conds.choose_spec.2.2
  unfold kf_where at hk
  refine ⟨⟨_, R.x⟩, ek 21 (by omega) (kt_knownColumn R hsrc (Nat.le_refl 21) (fun q1 => ?_) (fun q1 => ?_))⟩
  rotate_left
  · rw [if_pos q1] at hk
    exact (hk J h qkJs.rf qkFr.rf R).2 0 xI rfl rfl
  rw [if_neg (by rw [q1]; decide)] at hk
  refine ek 7 (by omega) (kt_inRange (Nat.le_refl 7) (fun c1 c2 => ?_) (fun z => ?_))
  rotate_left
  · rw [if_pos z] at hk
    exact (hk J h qkJs.rf qkFr.rf R).2 1 xA rfl rfl
  rw [if_neg (by rintro (z | z); exact c1 z; exact c2 z)] at hk
  intro J9 hJ9
  have bad : (if 2 < k then decide (n = 0) else kf_num n) = false → J9 0 := by
    intro z
    rw [if_pos z] at hk
    exact hJ9 0 (ek 7 (by omega) (kt_fit (Nat.le_refl 7) (fun z => absurd rfl z) (fun _ => (hk J h qkJs.rf qkFr.rf R).2 1 xA rfl rfl)))
  have good : (if 2 < k then decide (n = 0) else kf_num n) = true → J9 1 := by
    intro z
    rw [if_neg (by rw [z]; decide)] at hk
    refine hJ9 1 (ek 7 (by omega) (kt_fit (Nat.le_refl 7) (fun _ => ?_) (fun z => absurd z (by decide))))
    refine ⟨_, _, R.x, rfl, rl_size R.conds fun J7 hJ7 => ⟨fun z => ?_, fun z => ?_⟩⟩
    · rw [if_pos ((nI_leI (a := 4) (by decide) (by omega)).mp z)] at hk
      exact hJ7 0 (ek 7 (by omega) (kt_allowed (Nat.le_refl 7) (fun z => absurd rfl z) (fun _ => (hk J h qkJs.rf qkFr.rf R).2 2 xS rfl rfl)))
    · have hlt : ¬ 4 ≤ (aCond A).length := fun q => z ((nI_leI (a := 4) (by decide) (by omega)).mpr q)
      rw [if_neg hlt] at hk
      refine hJ7 1 (ek 7 (by omega) (kt_allowed (Nat.le_refl 7) (fun _ => ?_) (fun z => absurd z (by decide))))
      refine ⟨_, _, R.x, rfl, c - 21 - 7 - 7 - 7 - 5, by omega, fun w hw => ki_X12 ?_⟩
      obtain ⟨k1, R1, F1⟩ := kt_keep (e := .inr (11, [.int a, .int b, .int k, .int n])) R hw
      refine rl_add (w := (a, b, k, n)) R1.conds qc_up_s (Or.inr (Or.inr (Or.inr (Or.inl rfl)))) qc_up_s (by omega) fun xs hx => ?_
      have R2 := R1.pCond hx (by rw [List.length_append]; show (aCond A).length + 1 ≤ _; omega)
      refine ⟨_, _, R2.x, rfl, rl_size R2.conds ?_⟩
      rw [show aCond (sCond A (aCond A ++ [(a, b, k, n)])) = aCond A ++ [(a, b, k, n)] from rfl, List.length_append]
      exact (hk _ _ k1 (F1.tr (qkFr.up (by omega))) R2).1 rfl
  refine ⟨fun z => ⟨fun z1 => bad ?_, fun z1 => good ?_⟩, fun z => kt_isNumber ?_⟩
  · simp [z, z1]
  · simp [z, z1]
  · rw [if_neg z] at bad good
    cases hq : kf_num n with
    | false => exact bad hq
    | true => exact good hq
theorem kt_out {a b : Int32} {K : Int32 → qc_H → Prop} {KX : String → qc_H → Prop} (R : qkRep g L J h A) (hsrc : ∀ (n : Nat) (v : Int32), (aSeat A)[n]? = some v → ∃ s, s < 6 ∧ v = nI s) (hc : 100 ≤ c) (hk : kO g L J h (kf_outp A a b) [xI, xS] K KX) : T_X1_out g (L 0) a b h c K KX := by
  unfold T_X1_out
  have hlen := R.outs.choose_spec.2.2
  unfold kf_outp at hk
  refine ⟨⟨_, R.x⟩, ek 21 (by omega) (kt_knownColumn R hsrc (Nat.le_refl 21) (fun q1 => ?_) (fun q1 => ?_))⟩
  rotate_left
  · rw [if_pos q1] at hk
    exact (hk J h qkJs.rf qkFr.rf R).2 0 xI rfl rfl
  rw [if_neg (by rw [q1]; decide)] at hk
  refine ⟨_, _, R.x, rfl, rl_size R.outs fun J7 hJ7 => ⟨fun z => ?_, fun z => ?_⟩⟩
  · rw [if_pos ((nI_leI (a := 3) (by decide) (by omega)).mp z)] at hk
    exact hJ7 0 (ek 7 (by omega) (kt_allowed (Nat.le_refl 7) (fun z => absurd rfl z) (fun _ => (hk J h qkJs.rf qkFr.rf R).2 1 xS rfl rfl)))
  · have hlt : ¬ 3 ≤ (aOut A).length := fun q => z ((nI_leI (a := 3) (by decide) (by omega)).mpr q)
    rw [if_neg hlt] at hk
    refine hJ7 1 (ek 7 (by omega) (kt_allowed (Nat.le_refl 7) (fun _ => ?_) (fun z => absurd z (by decide))))
    refine ⟨_, _, R.x, rfl, c - 21 - 7 - 3, by omega, fun w hw => ki_X13 ?_⟩
    obtain ⟨k1, R1, F1⟩ := kt_keep (e := .inr (12, [.int a, .int b])) R hw
    refine rl_add (w := (a, b)) R1.outs qc_up_s (Or.inr (Or.inr (Or.inr (Or.inr (Or.inl rfl))))) qc_up_s (by omega) fun xs hx => ?_
    have R2 := R1.pOut hx (by rw [List.length_append]; show (aOut A).length + 1 ≤ _; omega)
    refine ⟨_, _, R2.x, rfl, rl_size R2.outs ?_⟩
    rw [show aOut (sOut A (aOut A ++ [(a, b)])) = aOut A ++ [(a, b)] from rfl, List.length_append]
    exact (hk _ _ k1 (F1.tr (qkFr.up (by omega))) R2).1 rfl
theorem kt_shape {a b : Int32} {K : qc_H → Prop} {KX : String → qc_H → Prop} (R : qkRep g L J h A) (hb : b = 0 ∨ b = 1) (hc : 21 ≤ c) (h1 : ∀ h', (kf_shape A a b).1 = 0 → qkRep g L J h' (kf_shape A a b).2 → qkFr L h h' → K h') (h2 : (kf_shape A a b).1 = 1 → qkRep g L J h (kf_shape A a b).2 → KX xA h) : T_X1_shape g (L 0) a b h c K KX := by
  unfold T_X1_shape
  unfold kf_shape at h1 h2
  refine ek 7 (by omega) (kt_inRange (Nat.le_refl 7) (fun c1 c2 => ?_) (fun z => ?_))
  · rw [if_neg (by rintro (z | z); exact c1 z; exact c2 z)] at h1
    exact kx_put R (by omega) rfl fun h3 R3 F3 => ⟨hb, kx_put R3 (by omega) rfl fun h4 R4 F4 => h1 h4 rfl R4 (F3.tr F4)⟩
  · rw [if_pos z] at h2
    exact h2 rfl R
theorem kt_clear {K : Int32 → qc_H → Prop} (R : qkRep g L J h A) (hk : ∀ h', qkRep g L J h' (kf_clear A) → qkFr L h h' → K (nI (aSeat A).length) h') : T_X1_clear g (L 0) h K := by
  unfold T_X1_clear
  refine ⟨_, _, R.x, rfl, rl_size R.seats ⟨_, _, R.x, rfl, rl_clear R.seats ?_⟩⟩
  have R1 := R.pSeat (v := []) qkL.nil (by decide)
  refine ⟨_, _, R1.x, rfl, rl_clear R1.links ?_⟩
  have R2 := R1.pLink (v := []) qkL.nil (by decide)
  refine ⟨_, _, R2.x, rfl, rl_clear R2.conds ?_⟩
  have R3 := R2.pCond (v := []) qkL.nil (by decide)
  refine ⟨_, _, R3.x, rfl, rl_clear R3.outs ?_⟩
  have R4 := R3.pOut (v := []) qkL.nil (by decide)
  refine kx_put R4 (by omega) rfl fun h5 R5 F5 => kx_put R5 (by omega) rfl fun h6 R6 F6 => ?_
  exact hk h6 R6 ((((((qkFr.up (by omega)).tr (qkFr.up (by omega))).tr (qkFr.up (by omega))).tr (qkFr.up (by omega))).tr F5).tr F6)
theorem kt_losses {K : Int32 → Prop} (R : qkRep g L J h A) (hk : K (aQ A 13)) : T_X1_losses g (L 0) h K := ⟨_, aQ A 13, R.x, rfl, hk⟩
theorem kt_moment {K : Int32 → Prop} (R : qkRep g L J h A) (hk : K (aQ A 14)) : T_X1_moment g (L 0) h K := ⟨_, aQ A 14, R.x, rfl, hk⟩
theorem kt_now {K : Int32 → Prop} (R : qkRep g L J h A) (hk : K (aQ A 15)) : T_X1_now g (L 0) h K := ⟨_, aQ A 15, R.x, rfl, hk⟩
theorem kt_entries {K : Int32 → Prop} (R : qkRep g L J h A) (hk : K (nI (aCache A).length)) : T_X1_entries g (L 0) h K := ⟨_, _, R.x, rfl, rl_size R.cache hk⟩
theorem kt_size {v : Int32} {K : Int32 → Prop} {KX : String → Prop} (R : qkRep g L J h A) (hc : 7 ≤ c) (hk : kP (if v < 0 ∨ ¬ v < 6 then (1, 0) else (0, aSr A v.toNatClampNeg 5)) [xI] K KX) : T_X1_size g (L 0) v h c K KX := by
  unfold T_X1_size
  refine ⟨⟨_, R.x⟩, ek 7 (by omega) (kt_sourceAt R (Nat.le_refl 7) (fun s hs hv hin => ?_) (fun z => ?_))⟩
  · rw [if_neg hin, hv, nI_clamp (by omega)] at hk
    exact ⟨_, aSr A s 5, R.src hs, rfl, hk.1 rfl⟩
  · rw [if_pos z] at hk
    exact hk.2 0 xI rfl rfl
end
