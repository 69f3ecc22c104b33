/-! SR 21: a small heap, cell by cell -/
set_option maxRecDepth 100000
/-- the heap holds just these cells -/
def pz (AL : List (Nat × qc_E)) (h : qc_H) : Prop := (∀ (k : Nat) (q : Nat × qc_E), AL[k]? = some q → h q.1 = some q.2) ∧ (∀ (i j : Nat) (p q : Nat × qc_E), AL[i]? = some p → AL[j]? = some q → p.1 = q.1 → i = j) ∧ ∀ b, (∀ (k : Nat) (q : Nat × qc_E), AL[k]? = some q → b ≠ q.1) → h b = none
section
variable {AL : List (Nat × qc_E)} {h : qc_H}
theorem pz.nil {h : qc_H} (e : ∀ b, h b = none) : pz [] h := ⟨fun k q z => (by cases z), fun i j p q z => (by cases z), fun b _ => e b⟩
theorem pz.get (Z : pz AL h) (i : Nat) {a : Nat} {e : qc_E} (hi : AL[i]? = some (a, e)) : h a = some e := Z.1 i _ hi
theorem pz.new (Z : pz AL h) {a : Nat} {e : qc_E} (ha : h a = none) : pz ((a, e) :: AL) (qc_up h a e) := by
  have hn : ∀ (k : Nat) (q : Nat × qc_E), AL[k]? = some q → q.1 ≠ a := fun k q hk z => by
    have := Z.1 k q hk
    rw [z, ha] at this
    cases this
  refine ⟨fun k q hk => ?_, fun i j p q hi hj hpq => ?_, fun b hb => ?_⟩
  · cases k with
    | zero => cases hk; exact qc_up_s
    | succ k =>
      have hk : AL[k]? = some q := hk
      rw [qc_up_n (hn k q hk)]
      exact Z.1 k q hk
  · cases i with
    | zero =>
      cases hi
      cases j with
      | zero => rfl
      | succ j => exact absurd hpq.symm (hn j q hj)
    | succ i =>
      have hi : AL[i]? = some p := hi
      cases j with
      | zero => cases hj; exact absurd hpq (hn i p hi)
      | succ j => rw [Z.2.1 i j p q hi hj hpq]
  · rw [qc_up_n (hb 0 (a, e) rfl)]
    exact Z.2.2 b fun k q hk => hb (k + 1) q hk
theorem pz.set (Z : pz AL h) (i : Nat) {a : Nat} {e e' : qc_E} (hi : AL[i]? = some (a, e)) : pz (AL.set i (a, e')) (qc_up h a e') := by
  have hil := (List.getElem?_eq_some_iff.mp hi).1
  have key : ∀ (k : Nat) (q : Nat × qc_E), (AL.set i (a, e'))[k]? = some q → ∃ q0, AL[k]? = some q0 ∧ q0.1 = q.1 ∧ (k = i → q = (a, e')) ∧ (k ≠ i → q0 = q) := by
    intro k q hk
    by_cases hki : k = i
    · subst hki
      rw [List.getElem?_set_self hil] at hk
      cases hk
      exact ⟨_, hi, rfl, fun _ => rfl, fun z => absurd rfl z⟩
    · rw [List.getElem?_set_ne (Ne.symm hki)] at hk
      exact ⟨q, hk, rfl, fun z => absurd z hki, fun _ => rfl⟩
  refine ⟨fun k q hk => ?_, fun x j p q hx hj hpq => ?_, fun b hb => ?_⟩
  · obtain ⟨q0, k1, k2, k3, k4⟩ := key k q hk
    by_cases hki : k = i
    · rw [k3 hki]
      exact qc_up_s
    · have hne : q.1 ≠ a := fun z => hki (Z.2.1 k i q0 _ k1 hi (k2.trans z))
      rw [qc_up_n hne, ← k4 hki]
      exact Z.1 k q0 k1
  · obtain ⟨p0, p1, p2, _⟩ := key x p hx
    obtain ⟨q0, q1, q2, _⟩ := key j q hj
    exact Z.2.1 x j p0 q0 p1 q1 (p2.trans (hpq.trans q2.symm))
  · have hba : b ≠ a := hb i (a, e') (List.getElem?_set_self hil)
    rw [qc_up_n hba]
    refine Z.2.2 b fun k q hk => ?_
    by_cases hki : k = i
    · subst hki
      rw [hi] at hk
      cases hk
      exact hba
    · exact hb k q (by rw [List.getElem?_set_ne (Ne.symm hki)]; exact hk)
variable {c c' : Nat} {cA : Nat → ClassId}
theorem pz.N {ci N : Nat} {fs : List Value} {K : Nat → qc_H → Nat → Prop} (Z : pz AL h) (c' : Nat) (hc : c = c' + (N + 1)) (kk : ∀ a h', pz ((a, .inl (.inr (ci, fs))) :: AL) h' → K a h' c') : eN h c ci N fs K := ⟨c', hc, fun a ha => kk a _ (Z.new ha)⟩
theorem pz.NL {K : Nat → qc_H → Nat → Prop} (Z : pz AL h) (c' : Nat) (hc : c = c' + 4) (kk : ∀ a h', pz ((a, .inr []) :: AL) h' → K a h' c') : eNL h c K := ⟨c', hc, fun a ha => kk a _ (Z.new ha)⟩
theorem pz.NQ {t0 : Nat} {n : Int32} {K : Nat → qc_H → Nat → Prop} (Z : pz AL h) (N c' : Nat) (hn : n = nI N) (hN : N ≤ 100000) (hc : c = c' + (N + 1)) (kk : ∀ a h', pz ((a, .inl (.inl (cA t0, N, .inr (.inr (.inr (.inr (fun _ => none))))))) :: AL) h' → K a h' c') : eNQ cA t0 h n c K := by
  subst hn
  have e : (nI N).toNatClampNeg = N := nI_clamp (by omega)
  refine ⟨nI_pos (by omega), by omega, c', by omega, fun a ha => ?_⟩
  rw [e]
  exact kk a _ (Z.new ha)
theorem pz.NJ {n : Int32} {K : Nat → qc_H → Nat → Prop} (Z : pz AL h) (N c' : Nat) (hn : n = nI N) (hN : N ≤ 100000) (hc : c = c' + (N + 1)) (kk : ∀ a h', pz ((a, .inl (.inl (cA 2, N, .inr (.inl (fun _ => 0))))) :: AL) h' → K a h' c') : eNJ cA h n c K := by
  subst hn
  have e : (nI N).toNatClampNeg = N := nI_clamp (by omega)
  refine ⟨nI_pos (by omega), by omega, c', by omega, fun a ha => ?_⟩
  rw [e]
  exact kk a _ (Z.new ha)
theorem pz.NM {K : Nat → qc_H → Nat → Prop} (Z : pz AL h) (c' : Nat) (hc : c = c' + 31) (kk : ∀ a h', pz ((a + 6, .inl (.inl (cA 1, 3, .inl (fun _ => 0)))) :: (a + 5, .inl (.inl (cA 1, 3, .inl (fun _ => 0)))) :: (a + 4, .inl (.inl (cA 1, 3, .inl (fun _ => 0)))) :: (a + 3, .inl (.inl (cA 1, 3, .inl (fun _ => 0)))) :: (a + 2, .inl (.inl (cA 1, 3, .inl (fun _ => 0)))) :: (a + 1, .inl (.inl (cA 1, 3, .inl (fun _ => 0)))) :: (a, .inl (.inl (cA 8, 6, .inr (.inr (.inr (.inr (fun j => some (a + 1 + j)))))))) :: AL) h' → K a h' c') : eNM cA h c K := by
  refine ⟨c', hc, fun a ha => ?_⟩
  obtain ⟨n0, n1, n2, n3, n4, n5, n6, _⟩ := ha
  exact kk a _ ((((((((Z.new n0).new n1).new n2).new n3).new n4).new n5).new n6))
theorem pz.P {ci k a : Nat} {fs : List Value} {v : Value} {K : qc_H → Prop} (Z : pz AL h) (i : Nat) (hi : AL[i]? = some (a, .inl (.inr (ci, fs)))) (hk : k < fs.length) (kk : ∀ h', pz (AL.set i (a, .inl (.inr (ci, fs.set k v)))) h' → K h') : eP h a ci k v K := ⟨fs, Z.get i hi, hk, kk _ (Z.set i hi)⟩
theorem pz.V {t0 ci a n w : Nat} {f : Nat → Option Nat} {vs : List Value} {x : Int32} {K : qc_H → Prop} (Z : pz AL h) (i i2 j : Nat) (hi : AL[i]? = some (a, .inl (.inl (cA t0, n, .inr (.inr (.inr (.inr f))))))) (h2 : AL[i2]? = some (w, .inl (.inr (ci, vs)))) (hx : x = nI j) (hj : j < n) (hn : n ≤ 100) (kk : ∀ h', pz (AL.set i (a, .inl (.inl (cA t0, n, .inr (.inr (.inr (.inr (va_up f j (some w))))))))) h' → K h') : eV cA t0 ci h a x w K := by
  subst hx
  refine ⟨n, f, vs, Z.get i hi, Z.get i2 h2, pk_in j n (by omega), ?_⟩
  rw [nI_clamp (by omega)]
  exact kk _ (Z.set i hi)
theorem pz.R {ci k a v : Nat} {fs : List Value} {K : Nat → Prop} (Z : pz AL h) (i : Nat) (hi : AL[i]? = some (a, .inl (.inr (ci, fs)))) (hk : fs[k]? = some (.ref v)) (kk : K v) : eR h a ci k K := ⟨fs, v, Z.get i hi, hk, kk⟩
theorem pz.Q {t0 a n y : Nat} {f : Nat → Option Nat} {x : Int32} {K : Nat → Prop} (Z : pz AL h) (i j : Nat) (hi : AL[i]? = some (a, .inl (.inl (cA t0, n, .inr (.inr (.inr (.inr f))))))) (hx : x = nI j) (hj : j < n) (hn : n ≤ 100) (hf : f j = some y) (kk : K y) : eQ cA t0 h a x K := by
  subst hx
  refine ⟨n, f, y, Z.get i hi, pk_in j n (by omega), ?_, kk⟩
  rw [nI_clamp (by omega)]
  exact hf
end
theorem pz.perm {AL : List (Nat × qc_E)} {h : qc_H} {LS P : List Nat} {N : Nat} (Z : pz AL h) (e : LS.map some = P.map fun i => (AL[i]?).map Prod.fst) (hN : AL.length = N) (hPl : P.length = N) (hP1 : ∀ k, k < N → ∃ n, n < N ∧ P.getD n 0 = k) (hP2 : ∀ i, i < N → ∀ j, j < N → P.getD i 0 = P.getD j 0 → i = j) : (∀ i j, i < N → j < N → LS.getD i 0 = LS.getD j 0 → i = j) ∧ ∀ b, (∀ n, n < N → b ≠ LS.getD n 0) → h b = none := by
  have key : ∀ n, n < N → ∃ q, AL[P.getD n 0]? = some q ∧ q.1 = LS.getD n 0 := by
    intro n hn
    have h1 := congrArg (fun l => l[n]?) e
    simp only [List.getElem?_map] at h1
    have h2 : P[n]? = some (P.getD n 0) := by
      rw [List.getD_eq_getElem?_getD, List.getElem?_eq_getElem (by omega)]
      rfl
    rw [h2] at h1
    have hl : LS.length = N := by
      have := congrArg List.length e
      rw [List.length_map, List.length_map] at this
      omega
    have h3 : LS[n]? = some (LS.getD n 0) := by
      rw [List.getD_eq_getElem?_getD, List.getElem?_eq_getElem (by omega)]
      rfl
    rw [h3] at h1
    simp only [Option.map_some] at h1
    have h1 := Option.some.inj h1
    cases hq : AL[P.getD n 0]? with
    | none => rw [hq] at h1; cases h1
    | some q =>
      rw [hq] at h1
      exact ⟨q, rfl, (Option.some.inj h1).symm⟩
  refine ⟨fun i j hi hj hij => ?_, fun b hb => Z.2.2 b fun k q hk => ?_⟩
  · obtain ⟨p, p1, p2⟩ := key i hi
    obtain ⟨q, q1, q2⟩ := key j hj
    exact hP2 i hi j hj (Z.2.1 _ _ p q p1 q1 (p2.trans (hij.trans q2.symm)))
  · have hkl := (List.getElem?_eq_some_iff.mp hk).1
    obtain ⟨n, n1, n2⟩ := hP1 k (by omega)
    obtain ⟨p, p1, p2⟩ := key n n1
    rw [n2, hk] at p1
    cases p1
    rw [p2]
    exact hb n n1
