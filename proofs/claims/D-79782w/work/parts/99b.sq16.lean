/-! SQ 16: the keys of a seat; whether a seat can be bound -/
set_option maxRecDepth 100000
theorem kpl_at {ks : List Int32} {v : Int32} {p : Nat} (hp : p ≤ ks.length) (h1 : ∀ j x, j < p → ks[j]? = some x → ¬ v ≤ x) (h2 : ∀ x, ks[p]? = some x → v ≤ x) : kf_kpl ks v = p := by
  unfold kf_kpl
  rw [(tw_take (fun k : Int32 => decide (¬ v ≤ k)) ks p hp (fun j x hj hx => decide_eq_true (h1 j x hj hx)) (fun x hx => decide_eq_false (fun z => z (h2 x hx)))).1, List.length_take]
  omega
theorem ins_in {ks : List Int32} {v : Int32} (ha : ks.Pairwise (· < ·)) (hv : v ∈ ks) : kf_ins ks v = ks := by
  obtain ⟨j, hj, e⟩ := List.getElem_of_mem hv
  have hk : kf_kpl ks v = j := kpl_at (by omega) (fun i x hi hx => by
    obtain ⟨hi', ex⟩ := List.getElem?_eq_some_iff.mp hx
    have := (List.pairwise_iff_getElem.mp ha) i j hi' hj hi
    rw [ex, e] at this
    exact Int32.not_le.mpr this) (fun x hx => by
    obtain ⟨_, ex⟩ := List.getElem?_eq_some_iff.mp hx
    rw [← ex, e]
    exact Int32.le_refl _)
  unfold kf_ins
  rw [hk, List.getElem?_eq_getElem hj, if_neg]
  rw [e]
  simp
theorem ins_out {ks : List Int32} {v : Int32} {p : Nat} (hn : kf_num v = true) (hv : v ∉ ks) (hp : p ≤ ks.length) (h1 : ∀ j x, j < p → ks[j]? = some x → ¬ v ≤ x) (h2 : ∀ x, ks[p]? = some x → v ≤ x) : kf_ins ks v = ks.take p ++ v :: ks.drop p := by
  unfold kf_ins
  rw [kpl_at hp h1 h2, if_pos]
  rw [hn, Bool.true_and]
  cases hx : ks[p]? with
  | none => rfl
  | some x =>
    have : x ≠ v := fun e => hv (by rw [← e]; exact List.mem_of_getElem? hx)
    simpa using this
theorem keys_snoc {col : Int32} {l : List qkRow} {r : qkRow} : kf_keys col (l ++ [r]) = kf_ins (kf_keys col l) (r.2 col.toNatClampNeg) := by
  unfold kf_keys
  rw [List.foldl_append]
  rfl
theorem keys_len {col : Int32} {l : List qkRow} : (kf_keys col l).length ≤ l.length := by
  have := kf_keys_len (col := col) (rows := l) (b := [])
  simpa [kf_keys] using this
theorem km_laysKeys {A : qkA} {S : qm_S} {o q : Nat} {raw : List qkRow} {K : qm_S → Prop} (hD : cD A S) (hi : iD A) (ho3 : o < 3) (hq4 : q < 4) (hraw : rSeat S o raw) (hk : ∀ S' : qm_S, (∀ k, k ≠ 63 → S'.1 k = S.1 k) → (∀ k, k ≠ 64 → S'.2 k = S.2 k) → S'.1 63 = nI (kf_keys (nI q) (raw.filter (fun r => kf_all (kf_own A (nI o)) r))).length → rKeys S' (kf_keys (nI q) (raw.filter (fun r => kf_all (kf_own A (nI o)) r))) → K S') : T_X8_laysKeys (nI o) (nI q) S K := by
  obtain ⟨r1, r2, r3⟩ := hraw
  generalize hP : (fun r => kf_all (kf_own A (nI o)) r) = P at hk
  unfold T_X8_laysKeys
  intro X hX
  refine lp (P := fun n st => X (nI n) st) raw.length (fun n st => (∀ k, k ≠ 63 → st.1 k = S.1 k) ∧ (∀ k, k ≠ 64 → st.2 k = S.2 k) ∧ st.1 63 = nI (kf_keys (nI q) ((raw.take n).filter P)).length ∧ rKeys st (kf_keys (nI q) ((raw.take n).filter P))) (fun n st hn hI ih => ?_) 0 _ (Nat.zero_le _) ⟨fun k hk => un1 hk, fun _ _ => rfl, rfl, fun k x hx => by simp [kf_keys] at hx⟩
  obtain ⟨f1, f2, f63, fK⟩ := hI
  refine hX _ _ ?_
  rw [nI_clamp (n := o) (by omega), f2 57 (by decide), r1]
  refine ⟨pk_in o 3 ho3, pk_le _ n (fun z => ?_) (fun z => ?_)⟩
  · obtain rfl : n = raw.length := by omega
    rw [List.take_length] at f63 fK
    exact hk st f1 f2 f63 fK
  · have hg : raw[n]? = some raw[n] := List.getElem?_eq_getElem z
    have hrow := r3 n _ hg
    have htk := take_s z
    have ih := ih z
    rw [htk] at ih
    generalize raw[n] = r at hg hrow ih
    have hr' : rRow (st.2 58) (st.2 59) (12 * o + n) r := by rw [f2 58 (by decide), f2 59 (by decide)]; exact hrow
    rw [m_12, nI_add, m_4, nI_add, nI_1, nI_clamp (n := 4 * (12 * o + n) + q) (by omega), hr'.2 q hq4, fm_num]
    generalize hks : kf_keys (nI q) ((raw.take n).filter P) = ks at f63 fK
    have hasc : ks.Pairwise (· < ·) := by rw [← hks]; exact keys_asc
    have hkl : ks.length ≤ n := by
      rw [← hks]
      refine Nat.le_trans keys_len (Nat.le_trans (List.length_filter_le _ _) ?_)
      rw [List.length_take]
      exact Nat.min_le_left _ _
    have new : ∀ ks', ks' = kf_keys (nI q) ((raw.take n ++ [r]).filter P) → ∀ st' : qm_S, (∀ k, k ≠ 63 → st'.1 k = S.1 k) → (∀ k, k ≠ 64 → st'.2 k = S.2 k) → st'.1 63 = nI ks'.length → rKeys st' ks' → X (nI (n + 1)) st' := by
      intro ks' e st' g1 g2 g3 g4
      subst e
      exact ih st' ⟨g1, g2, g3, g4⟩
    have hcl : (nI q).toNatClampNeg = q := nI_clamp (by omega)
    have hflt : P r = true → kf_keys (nI q) ((raw.take n ++ [r]).filter P) = kf_ins ks (r.2 q) := by
      intro hp
      rw [List.filter_append, List.filter_cons_of_pos hp, List.filter_nil, keys_snoc, hks, hcl]
    have hfln : P r = false → kf_keys (nI q) ((raw.take n ++ [r]).filter P) = ks := by
      intro hp
      rw [List.filter_append, List.filter_cons_of_neg (by rw [hp]; simp), List.filter_nil, List.append_nil, hks]
    refine ⟨ik 144 (by omega), bz (fun w => new ks ?_ st f1 f2 f63 fK) (fun w => ?_)⟩
    · cases hp : P r with
      | false => exact (hfln hp).symm
      | true =>
        rw [hflt hp]
        unfold kf_ins
        rw [w]
        simp
    refine km_holdHere (A := A) (hD.fr (fun k _ _ => f1 k (by omega)) (fun k _ _ => f2 k (by omega))) hi ho3 (by omega) hr' ?_
    have hPr : kf_all (kf_own A (nI o)) r = P r := by rw [← hP]
    rw [hPr]
    refine bz (fun w' => new ks (hfln w').symm st f1 f2 f63 fK) (fun w' => ?_)
    rw [f63]
    refine km_isKey (i := 0) (j := ks.length) (ks := ks) fK (Nat.zero_le _) (Nat.le_refl _) (by omega) ?_
    rw [List.drop_zero, Nat.sub_zero, List.take_length]
    have hmem : (ks.any (fun k => decide (r.2 q = k))) = true ↔ r.2 q ∈ ks := by
      rw [List.any_eq_true]
      constructor
      · rintro ⟨x, hx, e⟩
        rw [of_decide_eq_true e]
        exact hx
      · intro hx
        exact ⟨_, hx, decide_eq_true rfl⟩
    refine bn (fun w2 => new ks ?_ st f1 f2 f63 fK) (fun w2 => ?_)
    · rw [hflt w', ins_in hasc (hmem.mp w2)]
    have hnk : r.2 q ∉ ks := fun hx => by
      rw [hmem.mpr hx] at w2
      cases w2
    clear ih hX
    intro Y hY
    refine lpd (P := fun p u => Y (nI p) u) (fun p u => p ≤ ks.length ∧ u.1 = st.1 ∧ (∀ k, k ≠ 64 → u.2 k = st.2 k) ∧ (∀ j x, j < p → ks[j]? = some x → u.2 64 j = x) ∧ (∀ j x, p ≤ j → ks[j]? = some x → u.2 64 (j + 1) = x ∧ r.2 q < x)) (fun p u hI ih' => ?_) ks.length st ⟨Nat.le_refl _, rfl, fun _ _ => rfl, fun j x _ hx => fK j x hx, fun j x hj hx => absurd (List.getElem?_eq_some_iff.mp hx).1 (by omega)⟩
    obtain ⟨hp, u1, u2, u3, u4⟩ := hI
    refine hY _ _ ?_
    intro J hJ
    have hJ' : (p = 0 ∨ ∃ x, ks[p - 1]? = some x ∧ x ≤ r.2 q) → J := by
      intro hx
      refine hJ ?_
      rw [nI_clamp (n := p) (by omega)]
      refine ⟨pk_in p 12 (by omega), new (ks.take p ++ r.2 q :: ks.drop p) ?_ _ (fun k hk => (un1 hk).trans (by rw [u1]; exact f1 k hk)) (fun k hk => (un2 hk).trans ((u2 k hk).trans (f2 k hk))) ?_ (fun k x hkx => ?_)⟩
      · rw [hflt w']
        refine (ins_out w hnk hp (fun j x hj hxj => ?_) (fun x hxp => Int32.le_of_lt (u4 p x (Nat.le_refl _) hxp).2)).symm
        rcases hx with rfl | ⟨y, hy, hle⟩
        · omega
        · have hne : x ≠ r.2 q := fun e => hnk (by rw [← e]; exact List.mem_of_getElem? hxj)
          have hxy : x ≤ y := by
            obtain ⟨a1, a2⟩ := List.getElem?_eq_some_iff.mp hxj
            obtain ⟨b1, b2⟩ := List.getElem?_eq_some_iff.mp hy
            by_cases e : j = p - 1
            · subst e
              rw [hxj] at hy
              cases hy
              exact Int32.le_refl _
            · have := (List.pairwise_iff_getElem.mp hasc) j (p - 1) a1 b1 (by omega)
              rw [a2, b2] at this
              exact Int32.le_of_lt this
          exact fun z => hne (Int32.le_antisymm (Int32.le_trans hxy hle) z)
      · show upd u.1 63 (u.1 63 + 1) 63 = _
        rw [upd_s, u1, f63, nI_1]
        congr 1
        simp
        omega
      · show upd (u.2 64) p (r.2 q) k = x
        have hl : (ks.take p).length = p := by rw [List.length_take]; omega
        by_cases c : k < p
        · rw [List.getElem?_append_left (by omega), List.getElem?_take, if_pos c] at hkx
          rw [upd_n (by omega)]
          exact u3 k x c hkx
        · rw [List.getElem?_append_right (by omega), hl] at hkx
          by_cases e : k = p
          · subst e
            rw [Nat.sub_self] at hkx
            simp at hkx
            rw [upd_s]
            exact hkx
          · obtain ⟨j, rfl⟩ : ∃ j, k = p + (j + 1) := ⟨k - p - 1, by omega⟩
            rw [Nat.add_sub_cancel_left, List.getElem?_cons_succ, List.getElem?_drop] at hkx
            rw [upd_n (by omega)]
            exact (u4 (p + j) x (by omega) hkx).1
    refine pk_le p 0 (fun z' => hJ' (Or.inl (by omega))) (fun z' => ?_)
    have hgp : ks[p - 1]? = some (ks[p - 1]'(by omega)) := List.getElem?_eq_getElem (by omega)
    rw [s_1 (by omega), nI_clamp (n := p - 1) (by omega), nI_clamp (n := p) (by omega), u3 (p - 1) _ (by omega) hgp, s_m (by omega)]
    refine ⟨pk_in (p - 1) 12 (by omega), fun c => hJ' (Or.inr ⟨_, hgp, c⟩), fun c => ⟨pk_in p 12 (by omega), ih' (p - 1) _ (by omega) ⟨by omega, u1, fun k hk => (un2 hk).trans (u2 k hk), fun j x hj hx => ?_, fun j x hj hx => ?_⟩⟩⟩
    · exact Eq.trans (upd_n (by omega)) (u3 j x (by omega) hx)
    · by_cases e : j = p - 1
      · subst e
        rw [hgp] at hx
        cases hx
        refine ⟨?_, Int32.not_le.mp c⟩
        rw [show p - 1 + 1 = p by omega]
        exact upd_s
      · obtain ⟨y1, y2⟩ := u4 j x (by omega) hx
        exact ⟨Eq.trans (upd_n (by omega)) y1, y2⟩
