/-! SP 1: what the component's small methods answer -/
set_option maxRecDepth 100000
def b2 (b : Bool) : Int32 := if b then 1 else 0
theorem b2_t {b : Bool} (h : b = true) : b2 b = 1 := by rw [h]; rfl
theorem b2_f {b : Bool} (h : b = false) : b2 b = 0 := by rw [h]; rfl
theorem b2_z {b : Bool} : b2 b = 0 ∨ b2 b = 1 := by cases b <;> simp [b2]
theorem b2_eq0 {b : Bool} : b2 b = 0 ↔ b = false := by cases b <;> simp [b2]
theorem b2_n0 {b : Bool} : ¬ b2 b = 0 ↔ b = true := by cases b <;> simp [b2]
def kf_num (v : Int32) : Bool := decide (¬ v < -999 ∧ ¬ 999 < v)
def kf_key (v : Int32) : Bool := decide (¬ v < 0 ∧ ¬ 99 < v)
def kf_fit (t : Nat) (col v : Int32) : Bool :=
  if t = 0 then kf_num v || decide (v = 5000)
  else if t = 1 then (if col = 0 then kf_key v else if col = 1 then kf_num v || decide (v = 5000) else decide (v = 0))
  else (if col = 0 then kf_key v else decide (v = 5001) || (kf_num v || decide (v = 5000)))
def kf_kept (t : Nat) (col v : Int32) : Int32 := if t = 1 ∧ ¬ col = 0 ∧ ¬ v = 5000 then (if 0 < (if v < 99 then v else 99) then (if v < 99 then v else 99) else 0) else v
def kf_cols (t : Nat) : Int32 := if t = 1 then 2 else 4
def kf_hasKey (t : Nat) : Bool := decide (¬ t = 0)
def kf_can (t : Nat) (kind col : Int32) : Bool :=
  if t = 0 then decide (¬ kind = 4) else if t = 1 then decide (col = 0 ∧ ¬ 2 < kind) else decide (kind = 0 ∨ kind = 4 ∨ (col = 0 ∧ ¬ 2 < kind))
def kf_fee (t : Nat) : Int32 := if t = 0 then 5 else if t = 1 then 1 else 3
def kf_freight (t : Nat) : Int32 := if t = 2 then 2 else 1
abbrev xI : String := "java/lang/IndexOutOfBoundsException"
abbrev xA : String := "java/lang/IllegalArgumentException"
abbrev xS : String := "java/lang/IllegalStateException"
section
variable {g : qh_G} {L : Nat → Nat} {J h : qc_H} {A : qkA} {c : Nat}
theorem kt_isNumber {v : Int32} {K : Int32 → Prop} (hk : K (b2 (kf_num v))) : T_X1_isNumber g v h K := by
  unfold T_X1_isNumber
  refine ⟨fun c1 => ?_, fun c1 => ⟨fun c2 => ?_, fun c2 => ?_⟩⟩
  · simpa [b2, kf_num, c1] using hk
  · simpa [b2, kf_num, c1, c2] using hk
  · simpa [b2, kf_num, c1, c2] using hk
theorem kt_isKey {v : Int32} {K : Int32 → Prop} (hk : K (b2 (kf_key v))) : T_X1_isKey g v h K := by
  unfold T_X1_isKey
  refine ⟨fun c1 => ?_, fun c1 => ⟨fun c2 => ?_, fun c2 => ?_⟩⟩
  · simpa [b2, kf_key, c1] using hk
  · simpa [b2, kf_key, c1, c2] using hk
  · simpa [b2, kf_key, c1, c2] using hk
theorem kt_known {v n : Int32} {K : Int32 → Prop} {KX : String → Prop} (hc : 7 ≤ c) (h1 : ¬ v < 0 → v < n → K v) (h2 : (v < 0 ∨ ¬ v < n) → KX xI) : T_X1_known g v n h c K KX :=
  ⟨fun c1 => ⟨c - 7, by omega, h2 (Or.inl c1)⟩, fun c1 => ⟨fun c2 => h1 c1 c2, fun c2 => ⟨c - 7, by omega, h2 (Or.inr c2)⟩⟩⟩
theorem kt_fit {v : Int32} {K : Prop} {KX : String → Prop} (hc : 7 ≤ c) (h1 : ¬ v = 0 → K) (h2 : v = 0 → KX xA) : T_X1_fit g v h c K KX :=
  ⟨h1, fun c1 => ⟨c - 7, by omega, h2 c1⟩⟩
theorem kt_allowed {v : Int32} {K : Prop} {KX : String → Prop} (hc : 7 ≤ c) (h1 : ¬ v = 0 → K) (h2 : v = 0 → KX xS) : T_X1_allowed g v h c K KX :=
  ⟨h1, fun c1 => ⟨c - 7, by omega, h2 c1⟩⟩
theorem kt_inRange {v lo hi : Int32} {K : Prop} {KX : String → Prop} (hc : 7 ≤ c) (h1 : ¬ v < lo → ¬ hi < v → K) (h2 : (v < lo ∨ hi < v) → KX xA) : T_X1_inRange g v lo hi h c K KX := by
  unfold T_X1_inRange
  intro J hJ
  refine ⟨fun c1 => hJ 0 ⟨0, c, by omega, kt_fit hc (fun z => absurd rfl z) (fun _ => h2 (Or.inl c1))⟩, fun c1 => ⟨fun c2 => hJ 0 ⟨0, c, by omega, kt_fit hc (fun z => absurd rfl z) (fun _ => h2 (Or.inr c2))⟩, fun c2 => hJ 1 ⟨0, c, by omega, kt_fit hc (fun _ => h1 c1 c2) (fun z => absurd z (by decide))⟩⟩⟩
theorem kt_isFit0 {b : Nat} {a v : Int32} {K : Int32 → Prop} (hk : K (b2 (kf_num v || decide (v = 5000)))) : T_X19_isFit g b a v h K := by
  unfold T_X19_isFit
  refine kt_isNumber ?_
  refine ⟨fun c1 => ?_, fun c1 => ⟨fun c2 => ?_, fun c2 => ?_⟩⟩
  · rw [b2_n0] at c1
    simpa [c1, b2] using hk
  · rw [b2_eq0] at c1
    simpa [c1, c2, b2] using hk
  · rw [b2_eq0] at c1
    simpa [c1, c2, b2] using hk
/-- a store by its number -/
theorem kt_st {l : Nat} (R : qkRep g L J h A) (hl : l < 3) {K0 K1 K2 : Prop} (h0 : l = 0 → K0) (h1 : l = 1 → K1) (h2 : l = 2 → K2) : eC h (L (13 + l)) 2 K0 ∨ eC h (L (13 + l)) 3 K1 ∨ eC h (L (13 + l)) 4 K2 := by
  have : l = 0 ∨ l = 1 ∨ l = 2 := by omega
  rcases this with rfl | rfl | rfl
  · exact Or.inl ⟨⟨_, R.store hl⟩, h0 rfl⟩
  · exact Or.inr (Or.inl ⟨⟨_, R.store hl⟩, h1 rfl⟩)
  · exact Or.inr (Or.inr ⟨⟨_, R.store hl⟩, h2 rfl⟩)
theorem kt_isFit {l : Nat} {a v : Int32} {K : Int32 → Prop} (R : qkRep g L J h A) (hl : l < 3) (hk : K (b2 (kf_fit l a v))) : U_isFit g h (L (13 + l)) a v K := by
  refine kt_st R hl ?_ ?_ ?_
  · rintro rfl
    exact kt_isFit0 (by simpa [kf_fit] using hk)
  · rintro rfl
    unfold T_X4_isFit
    refine ⟨fun c1 => ⟨fun c2 => ⟨fun c3 => ?_, fun c3 => ?_⟩, fun c2 => ?_⟩, fun c1 => ?_⟩
    · simpa [kf_fit, c1, c2, c3, b2] using hk
    · simpa [kf_fit, c1, c2, c3, b2] using hk
    · exact ⟨⟨_, R.store hl⟩, kt_isFit0 (by subst c2; simpa [kf_fit, c1] using hk)⟩
    · exact kt_isKey (by simpa [kf_fit, c1] using hk)
  · rintro rfl
    unfold T_X5_isFit
    refine ⟨fun c1 => ⟨fun c2 => ?_, fun c2 => ?_⟩, fun c1 => ?_⟩
    · simpa [kf_fit, c1, c2, b2] using hk
    · refine ⟨⟨_, R.store hl⟩, kt_isFit0 ⟨fun c3 => ?_, fun c3 => ?_⟩⟩
      · rw [b2_eq0] at c3
        have : kf_fit 2 a v = false := by simp only [kf_fit]; simp [c1, c2]; simpa using c3
        rw [this] at hk
        exact hk
      · rw [b2_n0] at c3
        have : kf_fit 2 a v = true := by simp only [kf_fit]; simp [c1, c2]; simpa using c3
        rw [this] at hk
        exact hk
    · exact kt_isKey (by simpa [kf_fit, c1] using hk)
theorem kt_hasKey {l : Nat} {K : Int32 → Prop} (R : qkRep g L J h A) (hl : l < 3) (hk : K (b2 (kf_hasKey l))) : U_hasKey g h (L (13 + l)) K := by
  refine kt_st R hl ?_ ?_ ?_ <;> rintro rfl <;> exact hk
theorem kt_columns {l : Nat} {K : Int32 → Prop} (R : qkRep g L J h A) (hl : l < 3) (hk : K (kf_cols l)) : U_columns g h (L (13 + l)) K := by
  refine kt_st R hl ?_ ?_ ?_ <;> rintro rfl <;> exact hk
theorem kt_fee {l : Nat} {K : Int32 → Prop} (R : qkRep g L J h A) (hl : l < 3) (hk : K (kf_fee l)) : U_fee g h (L (13 + l)) K := by
  refine kt_st R hl ?_ ?_ ?_ <;> rintro rfl <;> exact hk
theorem kt_freight {l : Nat} {K : Int32 → Prop} (R : qkRep g L J h A) (hl : l < 3) (hk : K (kf_freight l)) : U_freight g h (L (13 + l)) K := by
  refine kt_st R hl ?_ ?_ ?_ <;> rintro rfl <;> exact hk
theorem kt_kept {l : Nat} {a v : Int32} {K : Int32 → Prop} (R : qkRep g L J h A) (hl : l < 3) (hk : K (kf_kept l a v)) : U_kept g h (L (13 + l)) a v K := by
  refine kt_st R hl ?_ ?_ ?_
  · rintro rfl
    exact hk
  · rintro rfl
    unfold T_X4_kept
    refine ⟨fun c1 => ?_, fun c1 => ⟨fun c2 => ?_, fun c2 => ?_⟩⟩
    · have : kf_kept 1 a v = v := by simp [kf_kept, c1]
      rw [this] at hk
      exact hk
    · rintro u3 rfl u4 rfl
      have : kf_kept 1 a v = (if 0 < (if v < 99 then v else 99) then (if v < 99 then v else 99) else 0) := by simp [kf_kept, c1, c2]
      rw [this] at hk
      exact hk
    · have : kf_kept 1 a v = v := by simp [kf_kept, c2]
      rw [this] at hk
      exact hk
  · rintro rfl
    exact hk
theorem kt_can {l : Nat} {kind col : Int32} {K : Int32 → Prop} (R : qkRep g L J h A) (hl : l < 3) (hk : K (b2 (kf_can l kind col))) : U_can g h (L (13 + l)) kind col K := by
  refine kt_st R hl ?_ ?_ ?_
  · rintro rfl
    exact ⟨fun c1 => by simpa [kf_can, c1, b2] using hk, fun c1 => by simpa [kf_can, c1, b2] using hk⟩
  · rintro rfl
    exact ⟨fun c1 => by simpa [kf_can, c1, b2] using hk, fun c1 => ⟨fun c2 => by simpa [kf_can, c1, c2, b2] using hk, fun c2 => by simpa [kf_can, c1, c2, b2] using hk⟩⟩
  · rintro rfl
    exact ⟨fun c1 => by simpa [kf_can, c1, b2] using hk, fun c1 => ⟨fun c2 => by simpa [kf_can, c1, c2, b2] using hk, fun c2 => ⟨fun c3 => by simpa [kf_can, c1, c2, c3, b2] using hk, fun c3 => ⟨fun c4 => by simpa [kf_can, c1, c2, c3, c4, b2] using hk, fun c4 => by simpa [kf_can, c1, c2, c3, c4, b2] using hk⟩⟩⟩⟩
/-! lists -/
theorem rl_size {α : Type} {P : Nat → α → Prop} {p : Nat} {vs : List α} {K : Int32 → Prop} (k : qkR P h p vs) (hk : K (nI vs.length)) : eSz h p K := by
  obtain ⟨xs, h1, h2, h3⟩ := k
  exact ⟨xs, h1, by rw [h2.1]; omega, by rw [h2.1]; exact hk⟩
theorem rl_empty {α : Type} {P : Nat → α → Prop} {p : Nat} {vs : List α} {K : Int32 → Prop} (k : qkR P h p vs) (hk : K (if vs.length = 0 then 1 else 0)) : eEm h p K := by
  obtain ⟨xs, h1, h2, h3⟩ := k
  exact ⟨xs, h1, by rw [h2.1]; omega, by rw [h2.1]; exact hk⟩
theorem rl_get {α : Type} {P : Nat → α → Prop} {p j : Nat} {i : Int32} {v : α} {vs : List α} {K : Nat → Prop} (k : qkR P h p vs) (hi : i = nI j) (hv : vs[j]? = some v) (hk : ∀ y, P y v → K y) : eGt h p i K := by
  obtain ⟨xs, h1, h2, h3⟩ := k
  obtain ⟨y, h4, h5⟩ := h2.get hv
  exact ⟨xs, j, y, h1, by rw [h2.1]; omega, hi, h4, hk y h5⟩
theorem rl_rem {α : Type} {P : Nat → α → Prop} {p j : Nat} {i : Int32} {v : α} {vs : List α} {K : Nat → qc_H → Prop} (k : qkR P h p vs) (hi : i = nI j) (hv : vs[j]? = some v) (hk : ∀ z xs, P z v → qkL P xs (vs.eraseIdx j) → K z (qc_up h p (.inr xs))) : eRm h p i K := by
  obtain ⟨xs, h1, h2, h3⟩ := k
  obtain ⟨y, h4, h5⟩ := h2.get hv
  exact ⟨xs, j, y, h1, by rw [h2.1]; omega, hi, h4, hk y _ h5 (h2.erase j)⟩
theorem rl_add {α : Type} {P : Nat → α → Prop} {p y : Nat} {w : α} {vs : List α} {e1 : qc_E} {K : qc_H → Nat → Prop} (k : qkR P h p vs) (hy : h y = some e1) (ho : qc_ok g e1) (hp : P y w) (hc : vs.length + vs.length / 2 + 11 ≤ c) (hk : ∀ xs, qkL P xs (vs ++ [w]) → K (qc_up h p (.inr xs)) (c - (vs.length + vs.length / 2 + 11))) : eAd g h p y c K := by
  obtain ⟨xs, h1, h2, h3⟩ := k
  refine ⟨xs, e1, c - (vs.length + vs.length / 2 + 11), h1, by rw [h2.1]; omega, hy, ho, by rw [h2.1]; omega, hk _ (h2.app (qkL.one hp))⟩
theorem rl_addI {α : Type} {P : Nat → α → Prop} {p y j : Nat} {i : Int32} {w : α} {vs : List α} {e1 : qc_E} {K : qc_H → Nat → Prop} (k : qkR P h p vs) (hi : i = nI j) (hj : j ≤ vs.length) (hy : h y = some e1) (ho : qc_ok g e1) (hp : P y w) (hc : vs.length + vs.length / 2 + 11 ≤ c) (hk : ∀ xs, qkL P xs (vs.take j ++ w :: vs.drop j) → K (qc_up h p (.inr xs)) (c - (vs.length + vs.length / 2 + 11))) : eAI g h p i y c K := by
  obtain ⟨xs, h1, h2, h3⟩ := k
  refine ⟨xs, j, e1, c - (vs.length + vs.length / 2 + 11), h1, by rw [h2.1]; omega, hi, by rw [h2.1]; exact hj, hy, ho, by rw [h2.1]; omega, hk _ (h2.ins j hp)⟩
theorem rl_set {α : Type} {P : Nat → α → Prop} {p y j : Nat} {i : Int32} {v w : α} {vs : List α} {e1 : qc_E} {K : Nat → qc_H → Prop} (k : qkR P h p vs) (hi : i = nI j) (hv : vs[j]? = some v) (hy : h y = some e1) (ho : qc_ok g e1) (hp : P y w) (hk : ∀ z xs, P z v → qkL P xs (vs.set j w) → K z (qc_up h p (.inr xs))) : eSt g h p i y K := by
  obtain ⟨xs, h1, h2, h3⟩ := k
  obtain ⟨z, h4, h5⟩ := h2.get hv
  exact ⟨xs, j, z, e1, h1, by rw [h2.1]; omega, hi, h4, hy, ho, hk z _ h5 (h2.set j hp)⟩
theorem rl_clear {α : Type} {P : Nat → α → Prop} {p : Nat} {vs : List α} {K : qc_H → Prop} (k : qkR P h p vs) (hk : K (qc_up h p (.inr []))) : eCl h p K := by
  obtain ⟨xs, h1, h2, h3⟩ := k
  exact ⟨xs, h1, by rw [h2.1]; omega, hk⟩
theorem ek {K : Nat → Nat → Prop} (k : Nat) (hc : k ≤ c) (hk : K (c - k) k) : eK c K := ⟨c - k, k, by omega, hk⟩
/-! sources -/
/-- the place of a row with a mark, as a number; -1 for none -/
def kf_at (rows : List qkRow) (m : Int32) : Option Nat := rows.findIdx? (fun r => decide (r.1 = m))
def kf_pl (rows : List qkRow) (m : Int32) : Int32 := match kf_at rows m with
  | some k => nI k
  | none => -1
theorem kt_placeOf {s : Nat} {m : Int32} {K : Int32 → Prop} (R : qkRep g L J h A) (hs : s < 6) (hk : K (kf_pl (aRow A s) m)) : T_X7_placeOf g (L (16 + s)) m h K := by
  unfold T_X7_placeOf
  intro X hX
  have hlen := (R.rows hs).choose_spec.2.2
  have key : ∀ n k, k + n = (aRow A s).length → (∀ j, j < k → ∀ r, (aRow A s)[j]? = some r → ¬ r.1 = m) → X (nI k) := by
    intro n
    induction n with
    | zero =>
      intro k hkn hb
      refine hX _ ⟨_, _, R.src hs, rfl, rl_size (R.rows hs) ⟨fun _ => ?_, fun z => absurd (nI_le (by omega) (by omega)) z⟩⟩
      have : kf_at (aRow A s) m = none := by
        unfold kf_at
        rw [List.findIdx?_eq_none_iff]
        intro r hr
        obtain ⟨j, hj, e⟩ := List.getElem_of_mem hr
        have := hb j (by omega) r (by rw [List.getElem?_eq_getElem hj, e])
        simpa using this
      unfold kf_pl at hk
      rw [this] at hk
      exact hk
    | succ n ih =>
      intro k hkn hb
      have hk' : k < (aRow A s).length := by omega
      refine hX _ ⟨_, _, R.src hs, rfl, rl_size (R.rows hs) ⟨fun z => absurd z (nI_ge (by omega) (by omega)), fun _ => ?_⟩⟩
      refine ⟨_, _, R.src hs, rfl, rl_get (R.rows hs) rfl (List.getElem?_eq_getElem hk') fun y hy => ?_⟩
      obtain ⟨ca, y1, y2⟩ := hy
      refine ⟨⟨_, R.jh _ _ y1⟩, _, _, R.jh _ _ y1, rfl, fun z => ?_, fun z => ?_⟩
      · rw [nI_1]
        refine ih (k + 1) (by omega) fun j hj r hr => ?_
        by_cases e : j = k
        · subst e
          rw [List.getElem?_eq_getElem hk'] at hr
          cases hr
          exact z
        · exact hb j (by omega) r hr
      · have : kf_at (aRow A s) m = some k := by
          unfold kf_at
          rw [List.findIdx?_eq_some_iff_getElem]
          refine ⟨hk', by simpa using z, fun j hj => ?_⟩
          have := hb j hj _ (List.getElem?_eq_getElem (by omega))
          simpa using this
        unfold kf_pl at hk
        rw [this] at hk
        exact hk
  exact key (aRow A s).length 0 (by omega) (fun j hj => absurd hj (Nat.not_lt_zero j))
end
