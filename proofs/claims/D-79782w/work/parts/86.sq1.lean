/-! SQ 1: loops, numbers, what the reference's plain functions answer -/
set_option maxRecDepth 100000
/-- a loop that goes up -/
theorem lp {σ : Type} {P : Nat → σ → Prop} (N : Nat) (Inv : Nat → σ → Prop) (step : ∀ n s, n ≤ N → Inv n s → (n < N → ∀ s', Inv (n + 1) s' → P (n + 1) s') → P n s) : ∀ n s, n ≤ N → Inv n s → P n s := by
  have key : ∀ m n s, n + m = N → Inv n s → P n s := by
    intro m
    induction m with
    | zero => intro n s e hI; exact step n s (by omega) hI (fun z => absurd z (by omega))
    | succ m ih => intro n s e hI; exact step n s (by omega) hI (fun _ s' h' => ih (n + 1) s' (by omega) h')
  intro n s hn hI
  exact key (N - n) n s (by omega) hI
/-- a loop that goes down -/
theorem lpd {σ : Type} {P : Nat → σ → Prop} (Inv : Nat → σ → Prop) (step : ∀ n s, Inv n s → (∀ m s', n = m + 1 → Inv m s' → P m s') → P n s) : ∀ n s, Inv n s → P n s := by
  intro n
  induction n with
  | zero => intro s hI; exact step 0 s hI (fun m s' e _ => absurd e (by omega))
  | succ m ih =>
    intro s hI
    refine step (m + 1) s hI (fun k s' e h' => ?_)
    obtain rfl : k = m := by omega
    exact ih s' h'
theorem m_12 (a : Nat) : (12 : Int32) * nI a = nI (12 * a) := pk_mul 12 a
theorem m_4 (a : Nat) : (4 : Int32) * nI a = nI (4 * a) := pk_mul 4 a
theorem m_3 (a : Nat) : (3 : Int32) * nI a = nI (3 * a) := pk_mul 3 a
theorem m_48 (a : Nat) : (48 : Int32) * nI a = nI (48 * a) := pk_mul 48 a
theorem m_10 (a : Nat) : (10 : Int32) * nI a = nI (10 * a) := pk_mul 10 a
theorem t_4 (a : Nat) : nI a * (4 : Int32) = nI (a * 4) := pk_mul a 4
theorem p_2 (a : Nat) : nI a + (2 : Int32) = nI (a + 2) := nI_add a 2
theorem p_3 (a : Nat) : nI a + (3 : Int32) = nI (a + 3) := nI_add a 3
theorem s_1 {a : Nat} (h : 1 ≤ a) : nI a - (1 : Int32) = nI (a - 1) := pk_sub (b := 1) h
theorem s_m {a : Nat} (h : 1 ≤ a) : nI a + (-1 : Int32) = nI (a - 1) := by
  obtain ⟨b, rfl⟩ : ∃ b, a = b + 1 := ⟨a - 1, by omega⟩
  rw [pk_m1]
  rfl
/-- 'not' ahead: the rows of comparisons the other way round -/
theorem pj_le {x y : Int32} {A B : Prop} (a b : Nat) (g : b < a → B) (f : a ≤ b → A) (hx : x = nI a := by rfl) (hy : y = nI b := by rfl) (ha : a < 2 ^ 31 := by omega) (hb : b < 2 ^ 31 := by omega) : (¬ x ≤ y → B) ∧ (x ≤ y → A) := (pk_le a b f g hx hy ha hb).symm
theorem pj_eq {x y : Int32} {A B : Prop} (a b : Nat) (g : a ≠ b → B) (f : a = b → A) (hx : x = nI a := by rfl) (hy : y = nI b := by rfl) (ha : a < 2 ^ 31 := by omega) (hb : b < 2 ^ 31 := by omega) : (¬ x = y → B) ∧ (x = y → A) := (pk_eq a b f g hx hy ha hb).symm
theorem pj_lt {x y : Int32} {A B : Prop} (a b : Nat) (g : b ≤ a → B) (f : a < b → A) (hx : x = nI a := by rfl) (hy : y = nI b := by rfl) (ha : a < 2 ^ 31 := by omega) (hb : b < 2 ^ 31 := by omega) : (¬ x < y → B) ∧ (x < y → A) := (pk_lt a b f g hx hy ha hb).symm
/-- a truth value asked for being 0 -/
theorem bz {b : Bool} {A B : Prop} (f : b = false → A) (g : b = true → B) : (b2 b = 0 → A) ∧ (¬ b2 b = 0 → B) := ⟨fun z => f (b2_eq0.mp z), fun z => g (b2_n0.mp z)⟩
theorem bn {b : Bool} {A B : Prop} (g : b = true → B) (f : b = false → A) : (¬ b2 b = 0 → B) ∧ (b2 b = 0 → A) := (bz f g).symm
theorem nI_nm1 {a : Nat} (h : a < 2 ^ 31) : ¬ nI a = -1 := fun e => by
  have h1 := congrArg Int32.toInt e
  rw [nI_toInt h] at h1
  have : (-1 : Int32).toInt = -1 := by decide
  rw [this] at h1
  omega
theorem us1 {f : Nat → Int32} {g : Nat → Nat → Int32} {k : Nat} {v : Int32} : ((upd f k v, g) : qm_S).1 k = v := upd_s
theorem un1 {f : Nat → Int32} {g : Nat → Nat → Int32} {k j : Nat} {v : Int32} (h : j ≠ k) : ((upd f k v, g) : qm_S).1 j = f j := upd_n h
theorem us2 {f : Nat → Int32} {F : Nat → Nat → Int32} {k : Nat} {h : Nat → Int32} : ((f, qm_uA F k h) : qm_S).2 k = h := if_pos rfl
theorem un2 {f : Nat → Int32} {F : Nat → Nat → Int32} {k j : Nat} {h : Nat → Int32} (hn : j ≠ k) : ((f, qm_uA F k h) : qm_S).2 j = F j := if_neg hn
theorem le_1 {s : Nat} (h : s ≤ 1) : nI s ≤ (1 : Int32) := nI_le (b := 1) h (by decide)
theorem nle_1 {s : Nat} (h : ¬ s ≤ 1) (h' : s < 6) : ¬ nI s ≤ (1 : Int32) := nI_ge (a := 1) (by omega) (by omega)
theorem ik {n : Nat} (N : Nat) (h : n < N) (hN : N < 2 ^ 31 := by decide) : vp_in (nI n) N := vp_in_nI h hN
theorem uA_s {f : Nat → Nat → Int32} {k : Nat} {h : Nat → Int32} : qm_uA f k h k = h := if_pos rfl
theorem uA_n {f : Nat → Nat → Int32} {k j : Nat} {h : Nat → Int32} (hn : j ≠ k) : qm_uA f k h j = f j := if_neg hn
theorem uA_2 {f : Nat → Nat → Int32} {k : Nat} {h h' : Nat → Int32} : qm_uA (qm_uA f k h) k h' = qm_uA f k h' := by
  funext j
  by_cases e : j = k
  · subst e; rw [uA_s, uA_s]
  · rw [uA_n e, uA_n e, uA_n e]
/-! plain functions -/
theorem fm_in {a lo hi : Int32} : f_X8_in a lo hi = b2 (decide (¬ a < lo ∧ ¬ hi < a)) := by
  unfold f_X8_in b2
  by_cases h1 : a < lo <;> by_cases h2 : hi < a <;> simp [h1, h2]
theorem fm_num {v : Int32} : f_X8_isNumber v = b2 (kf_num v) := by
  unfold f_X8_isNumber kf_num
  rw [fm_in]
theorem fm_half {s : Nat} (hs : s < 6) : f_X8_storeOf (nI s) = nI (s / 2) := by
  unfold f_X8_storeOf
  exact half_s s hs
theorem fm_src {v : Int32} : f_X8_isSource v = b2 (decide (¬ (v < 0 ∨ ¬ v < 6))) := by
  unfold f_X8_isSource
  rw [fm_in]
  congr 1
  have e : (5 < v) ↔ ¬ v < 6 := by
    rw [Int32.lt_iff_toInt_lt, Int32.lt_iff_toInt_lt]
    have e5 : (5 : Int32).toInt = 5 := by decide
    have e6 : (6 : Int32).toInt = 6 := by decide
    rw [e5, e6]
    omega
  rw [decide_eq_decide, e, not_or]
theorem fm_store {v : Int32} : f_X8_isStore v = b2 (decide (¬ (v < 0 ∨ ¬ v < 3))) := by
  unfold f_X8_isStore
  rw [fm_in]
  congr 1
  have e : (2 < v) ↔ ¬ v < 3 := by
    rw [Int32.lt_iff_toInt_lt, Int32.lt_iff_toInt_lt]
    have e5 : (2 : Int32).toInt = 2 := by decide
    have e6 : (3 : Int32).toInt = 3 := by decide
    rw [e5, e6]
    omega
  rw [decide_eq_decide, e, not_or]
theorem fm_col {s : Nat} {c : Int32} (hs : s < 6) : f_X8_isColumn (nI s) c = b2 (decide (¬ (c < 0 ∨ ¬ c < kf_cols (s / 2)))) := by
  unfold f_X8_isColumn kf_cols
  rw [fm_half hs]
  have e : (nI (s / 2) = 1) ↔ s / 2 = 1 := nI_eq (b := 1) (by omega) (by decide)
  have e1 : (1 < c) ↔ ¬ c < 2 := by
    rw [Int32.lt_iff_toInt_lt, Int32.lt_iff_toInt_lt]
    have e5 : (1 : Int32).toInt = 1 := by decide
    have e6 : (2 : Int32).toInt = 2 := by decide
    rw [e5, e6]
    omega
  have e3 : (3 < c) ↔ ¬ c < 4 := by
    rw [Int32.lt_iff_toInt_lt, Int32.lt_iff_toInt_lt]
    have e5 : (3 : Int32).toInt = 3 := by decide
    have e6 : (4 : Int32).toInt = 4 := by decide
    rw [e5, e6]
    omega
  by_cases h : s / 2 = 1
  · rw [if_pos (e.mpr h), if_pos h, fm_in]
    congr 1
    rw [decide_eq_decide, e1, not_or]
  · rw [if_neg (fun z => h (e.mp z)), if_neg h, fm_in]
    congr 1
    rw [decide_eq_decide, e3, not_or]
theorem fm_can {t : Nat} {kind col : Int32} (ht : t < 3) : f_X8_canDo (nI t) col kind = b2 (kf_can t kind col) := by
  unfold f_X8_canDo kf_can
  have e0 : (nI t = 0) ↔ t = 0 := nI_eq (b := 0) (by omega) (by decide)
  have e1 : (nI t = 1) ↔ t = 1 := nI_eq (b := 1) (by omega) (by decide)
  simp only [e0, e1]
  by_cases h0 : t = 0
  · by_cases h4 : kind = 4 <;> simp [h0, h4, b2]
  · by_cases h1 : t = 1
    · by_cases hc : col = 0 <;> by_cases h2 : 2 < kind <;> simp [h1, hc, h2, b2]
    · by_cases k0 : kind = 0 <;> by_cases h4 : kind = 4 <;> by_cases hc : col = 0 <;> by_cases h2 : 2 < kind <;> simp [h0, h1, k0, h4, hc, h2, b2]
theorem fm_holds {kind n v : Int32} (hn : kind = 0 → kf_num n = true) : f_X8_holds kind n v = b2 (kf_holdv kind n v) := by
  unfold f_X8_holds kf_holdv
  rw [fm_num]
  by_cases h0 : kind = 0
  · rw [if_pos h0, if_pos h0]
    by_cases hv : v = n
    · rw [hv, hn h0]; simp [b2]
    · cases kf_num v <;> simp [b2, hv]
  rw [if_neg h0, if_neg h0]
  by_cases h1 : kind = 1
  · rw [if_pos h1, if_pos h1]
    cases kf_num v <;> by_cases hv : n ≤ v <;> simp [b2, hv]
  rw [if_neg h1, if_neg h1]
  by_cases h2 : kind = 2
  · rw [if_pos h2, if_pos h2]
    cases kf_num v <;> by_cases hv : v ≤ n <;> simp [b2, hv]
  rw [if_neg h2, if_neg h2]
  by_cases h3 : kind = 3
  · rw [if_pos h3, if_pos h3]
    by_cases hv : v = 5000 <;> simp [b2, hv]
  · rw [if_neg h3, if_neg h3]
    by_cases hv : v = 5001 <;> simp [b2, hv]
theorem fm_follows {a b : qkC} : f_X8_follows a.2.2.1 a.2.2.2 b.2.2.1 b.2.2.2 = b2 (kf_same a b || kf_less a b || kf_more a b) := by
  unfold f_X8_follows kf_same kf_less kf_more
  generalize a.2.2.1 = k
  generalize a.2.2.2 = n
  generalize b.2.2.1 = l
  generalize b.2.2.2 = m
  by_cases k1 : k = 1
  · subst k1
    by_cases l1 : l = 1
    · subst l1
      by_cases h : m ≤ n
      · simp [h, b2]
      · have : ¬ n = m := fun e => h (e ▸ Int32.le_refl _)
        simp [h, this, b2]
    · have l1' : ¬ 1 = l := fun e => l1 e.symm
      by_cases l0 : l = 0
      · subst l0
        by_cases h : n ≤ m <;> simp [h, b2]
      · simp [l1, l1', l0, b2]
  · by_cases k2 : k = 2
    · subst k2
      by_cases l2 : l = 2
      · subst l2
        by_cases h : n ≤ m
        · simp [h, b2]
        · have : ¬ n = m := fun e => h (e ▸ Int32.le_refl _)
          simp [h, this, b2]
      · have l2' : ¬ 2 = l := fun e => l2 e.symm
        by_cases l0 : l = 0
        · subst l0
          by_cases h : m ≤ n <;> simp [h, b2]
        · simp [l2, l2', l0, b2]
    · by_cases h : k = l
      · by_cases h' : n = m <;> simp [k1, k2, h, h', b2]
        · by_cases h1 : l = 1
          · exact absurd (h.trans h1) k1
          · by_cases h2 : l = 2
            · exact absurd (h.trans h2) k2
            · simp [h1, h2]
        · by_cases h1 : l = 1
          · exact absurd (h.trans h1) k1
          · by_cases h2 : l = 2
            · exact absurd (h.trans h2) k2
            · have : ¬ m = n := fun e => h' e.symm
              simp [h1, h2, this]
      · have : ¬ l = k := fun e => h e.symm
        simp [k1, k2, h, this, b2]
theorem fm_cell {s c : Nat} {v : Int32} (hs : s < 6) (hc : c < 4) : f_X8_isCell (nI s) (nI c) v = b2 (kf_fit (s / 2) (nI c) v) := by
  unfold f_X8_isCell kf_fit
  rw [fm_col hs, fm_num, fm_in]
  have e1 : (nI s ≤ 1) ↔ s ≤ 1 := nI_leI (b := 1) (by omega) (by decide)
  have e3 : (nI s ≤ 3) ↔ s ≤ 3 := nI_leI (b := 3) (by omega) (by decide)
  have c0 : (nI c = 0) ↔ c = 0 := nI_eq (b := 0) (by omega) (by decide)
  have c1 : (nI c = 1) ↔ c = 1 := nI_eq (b := 1) (by omega) (by decide)
  have cn : ¬ nI c < 0 := nI_pos (by omega)
  have c2 : (nI c < 2) ↔ c < 2 := nI_ltI (b := 2) (by omega) (by decide)
  have c4 : (nI c < 4) ↔ c < 4 := nI_ltI (b := 4) (by omega) (by decide)
  unfold kf_cols
  simp only [e1, e3, c0, c1]
  have hk : b2 (decide (¬ v < 0 ∧ ¬ 99 < v)) = b2 (kf_key v) := rfl
  rw [hk]
  by_cases s1 : s ≤ 1
  · have t0 : s / 2 = 0 := by omega
    have s3 : s ≤ 3 := by omega
    simp only [t0, s1, s3, if_true, if_false, Nat.zero_ne_one, cn, c4, hc, not_true, or_self, not_false_eq_true, decide_true, b2]
    cases kf_num v <;> by_cases h5 : v = 5000 <;> by_cases h6 : v = 5001 <;> simp [h5, h6]
  · by_cases s3 : s ≤ 3
    · have t1 : s / 2 = 1 := by omega
      have t0 : ¬ (1 = 0) := by omega
      by_cases hc2 : c < 2
      · simp only [t1, t0, s1, s3, if_true, if_false, cn, c2, hc2, not_true, or_self, not_false_eq_true, decide_true, b2]
        by_cases hc0 : c = 0
        · simp [hc0]
        · have hc1 : c = 1 := by omega
          cases kf_num v <;> by_cases h5 : v = 5000 <;> by_cases h6 : v = 5001 <;> simp [h5, h6, hc1]
      · have hc0 : ¬ c = 0 := by omega
        have hc1 : ¬ c = 1 := by omega
        simp only [t1, t0, s1, s3, if_true, if_false, cn, c2, hc2, hc0, hc1, not_true, or_true, not_false_eq_true, decide_false, b2]
        by_cases h0 : v = 0 <;> simp [h0]
    · have t2 : s / 2 = 2 := by omega
      have t0 : ¬ (2 = 0) := by omega
      have t1 : ¬ (2 = 1) := by omega
      simp only [t2, t0, t1, s1, s3, if_true, if_false, cn, c4, hc, not_true, or_self, not_false_eq_true, decide_true, b2]
      by_cases hc0 : c = 0
      · simp [hc0]
      · cases kf_num v <;> by_cases h5 : v = 5000 <;> by_cases h6 : v = 5001 <;> simp [h5, h6, hc0]
