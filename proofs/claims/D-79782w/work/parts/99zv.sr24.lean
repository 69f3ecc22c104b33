/-! SR 24: the law's start: what holds ahead of its loop -/
set_option maxRecDepth 100000
def stV : qkAns := ([], kf_f0, [])
theorem no_mem {α : Type} {k : Nat} {x : α} (h : ([] : List α)[k]? = some x) : False := by
  rw [List.getElem?_nil] at h
  cases h
theorem st_cC {la : Nat} : cC (stA la) stV (stS, stC) := by
  refine ⟨⟨rfl, rfl, rfl, rfl, rfl⟩, fun l hl => ?_, fun s hs => ⟨?_, fun k r h => (no_mem h).elim⟩, fun s hs => ⟨fun _ => rfl, rfl, rfl, ?_⟩, ⟨⟨rfl, fun k v h => (no_mem h).elim⟩, ⟨rfl, fun k v h => (no_mem h).elim⟩, ⟨rfl, fun k v h => (no_mem h).elim⟩, ⟨rfl, fun k v h => (no_mem h).elim⟩⟩, ⟨rfl, fun k v h => (no_mem h).elim⟩, ⟨rfl, fun k v h => (no_mem h).elim⟩, ⟨rfl, Nat.zero_le _, fun k v h => (no_mem h).elim, rfl, rfl, rfl, rfl, rfl, rfl, Nat.zero_le _, fun k v h => (no_mem h).elim⟩⟩
  · match l, hl with
    | 0, _ => exact ⟨rfl, rfl, rfl, rfl, rfl, rfl, rfl, rfl, rfl, rfl, rfl⟩
    | 1, _ => exact ⟨rfl, rfl, rfl, rfl, rfl, rfl, rfl, rfl, rfl, rfl, rfl⟩
    | 2, _ => exact ⟨rfl, rfl, rfl, rfl, rfl, rfl, rfl, rfl, rfl, rfl, rfl⟩
    | l + 3, hl => omega
  · rfl
  · match s, hs with
    | 0, _ => rfl
    | 1, _ => rfl
    | 2, _ => rfl
    | 3, _ => rfl
    | 4, _ => rfl
    | 5, _ => rfl
    | s + 6, hs => omega
theorem st_qkI {la : Nat} : qkI 0 0 (stA la) := by
  refine ⟨fun s hs => ⟨qkRs.nil, List.Pairwise.nil, fun _ => ⟨0, by decide, rfl, fun r hr => by cases hr⟩, 10, by decide, rfl⟩, fun l hl => ⟨⟨1, by decide, rfl⟩, ⟨0, by decide, rfl⟩, ⟨12, by decide, rfl⟩, Or.inl rfl⟩, fun s hs t ht => Or.inl rfl, ⟨⟨Nat.zero_le _, fun k v h => (no_mem h).elim⟩, ⟨Nat.zero_le _, fun l hl => by cases hl⟩, ⟨Nat.zero_le _, fun l hl => by cases hl⟩, ⟨Nat.zero_le _, fun l hl => by cases hl⟩, ⟨40, by decide, by decide, rfl⟩, Or.inl rfl⟩, ⟨Nat.zero_le _, fun f hf => by cases hf⟩, ⟨⟨0, by decide, rfl⟩, 0, by decide, rfl, fun s hs => ⟨List.Pairwise.nil, fun w hw => by cases hw⟩, fun x hx => (by cases hx), fun x hx => (by cases hx), fun x hx => by cases hx⟩, ⟨Nat.zero_le _, fun E hE => by cases hE⟩⟩
theorem st_qkWb {la : Nat} : qkWb 0 (stA la) := ⟨fun _ _ => Nat.le_refl _, Nat.le_refl _⟩
/-- the heap ahead of the loop, but for the arrays' numbers beyond their ends -/
def stF (g : qh_G) (L0 : Nat → Nat) (m o : Nat) (fa : Nat → Nat) (h : qc_H) : Prop := (∀ i j, i < 44 → j < 44 → L0 i = L0 j → i = j) ∧ (h (L0 0) = some (.inl (.inr (0, qkO L0 (aQ (stA 0)) (L0 41)))) ∧ (∃ f, h (L0 1) = some (.inl (.inl (g.2.2.2.1 4, 3, .inr (.inr (.inr (.inr f)))))) ∧ ∀ s, s < 3 → f s = some (L0 (10 + s))) ∧ (∃ f, h (L0 2) = some (.inl (.inl (g.2.2.2.1 5, 6, .inr (.inr (.inr (.inr f)))))) ∧ ∀ s, s < 6 → f s = some (L0 (16 + s))) ∧ (∃ f, h (L0 3) = some (.inl (.inl (g.2.2.2.1 8, 6, .inr (.inr (.inr (.inr f)))))) ∧ ∀ s, s < 6 → f s = some (L0 (4 + s))) ∧ (∀ s, s < 6 → h (L0 (4 + s)) = some (.inl (.inl (g.2.2.2.1 1, 3, .inl (aFb (stA 0) s))))) ∧ (∀ s, s < 3 → h (L0 (10 + s)) = some (.inl (.inr (1, qkLine L0 s (aLn (stA 0) s))))) ∧ (∀ s, s < 3 → h (L0 (13 + s)) = some (.inl (.inr (2 + s, [])))) ∧ (∀ s, s < 6 → h (L0 (16 + s)) = some (.inl (.inr (6, qkSrc L0 s (aSr (stA 0) s))))) ∧ (∀ s, s < 19 → h (L0 (22 + s)) = some (.inr [])) ∧ h (L0 41) = some (qkAn (L0 42) (L0 43) kf_f0) ∧ h (L0 42) = some (.inr []) ∧ h (L0 43) = some (.inr [])) ∧ tw g m fa h (stS, stC) ∧ h o = some (.inl (.inl (g.2.2.2.1 2, 1, .inr (.inl (fun _ => 0))))) ∧ o ≠ m ∧ (∀ k, k ∈ qm_ar → o ≠ fa k) ∧ ∀ n, n < 44 → L0 n ≠ m ∧ L0 n ≠ o ∧ ∀ k, k ∈ qm_ar → L0 n ≠ fa k
/-- all cells of the component stand where others are new -/
theorem st_some {g : qh_G} {L : Nat → Nat} {h : qc_H} (Q : x1Q g L h) : ∀ n, n < 44 → h (L n) ≠ none := by
  obtain ⟨_, _, q0, ⟨_, q1, _⟩, ⟨_, q2, _⟩, ⟨_, q3, _⟩, q4, q5, q6, q7, q8, q9, q10, q11⟩ := Q
  intro n hn z
  have c : n = 0 ∨ n = 1 ∨ n = 2 ∨ n = 3 ∨ (4 ≤ n ∧ n < 10) ∨ (10 ≤ n ∧ n < 13) ∨ (13 ≤ n ∧ n < 16) ∨ (16 ≤ n ∧ n < 22) ∨ (22 ≤ n ∧ n < 41) ∨ n = 41 ∨ n = 42 ∨ n = 43 := by omega
  rcases c with rfl | rfl | rfl | rfl | ⟨a, b⟩ | ⟨a, b⟩ | ⟨a, b⟩ | ⟨a, b⟩ | ⟨a, b⟩ | rfl | rfl | rfl
  · rw [q0] at z; cases z
  · rw [q1] at z; cases z
  · rw [q2] at z; cases z
  · rw [q3] at z; cases z
  · have := q4 (n - 4) (by omega)
    rw [show 4 + (n - 4) = n by omega, z] at this; cases this
  · have := q5 (n - 10) (by omega)
    rw [show 10 + (n - 10) = n by omega, z] at this; cases this
  · have := q6 (n - 13) (by omega)
    rw [show 13 + (n - 13) = n by omega, z] at this; cases this
  · have := q7 (n - 16) (by omega)
    rw [show 16 + (n - 16) = n by omega, z] at this; cases this
  · have := q8 (n - 22) (by omega)
    rw [show 22 + (n - 22) = n by omega, z] at this; cases this
  · rw [q9] at z; cases z
  · rw [q10] at z; cases z
  · rw [q11] at z; cases z
theorem x1Q.keep {g : qh_G} {L : Nat → Nat} {h h' : qc_H} {m o : Nat} {fa : Nat → Nat} (Q : x1Q g L h) (hk : ∀ n, n < 44 → h' (L n) = h (L n)) (ht : tw g m fa h' (stS, stC)) (ho : h' o = some (.inl (.inl (g.2.2.2.1 2, 1, .inr (.inl (fun _ => 0)))))) (h1 : o ≠ m) (h2 : ∀ k, k ∈ qm_ar → o ≠ fa k) (h3 : ∀ n, n < 44 → L n ≠ m ∧ L n ≠ o ∧ ∀ k, k ∈ qm_ar → L n ≠ fa k) : stF g L m o fa h' := by
  obtain ⟨i, _, q0, ⟨f1, q1, e1⟩, ⟨f2, q2, e2⟩, ⟨f3, q3, e3⟩, q4, q5, q6, q7, q8, q9, q10, q11⟩ := Q
  exact ⟨i, ⟨by rw [hk 0 (by omega)]; exact q0, ⟨f1, by rw [hk 1 (by omega)]; exact q1, e1⟩, ⟨f2, by rw [hk 2 (by omega)]; exact q2, e2⟩, ⟨f3, by rw [hk 3 (by omega)]; exact q3, e3⟩, fun s hs => by rw [hk _ (by omega)]; exact q4 s hs, fun s hs => by rw [hk _ (by omega)]; exact q5 s hs, fun s hs => by rw [hk _ (by omega)]; exact q6 s hs, fun s hs => by rw [hk _ (by omega)]; exact q7 s hs, fun s hs => by rw [hk _ (by omega)]; exact q8 s hs, by rw [hk 41 (by omega)]; exact q9, by rw [hk 42 (by omega)]; exact q10, by rw [hk 43 (by omega)]; exact q11⟩, ht, ho, h1, h2, h3⟩
theorem st_L {g : qh_G} {hp : qc_H} {c0 : Nat} {K : Nat → Nat → Nat → qc_H → Nat → Prop} (he : ∀ b, hp b = none) (hK : ∀ (LS : List Nat) (fa : Nat → Nat) (m o : Nat) (h : qc_H), stF g (fun n => LS.getD n 0) m o fa h → K (LS.getD 0 0) m o h c0) : T_L_st g hp (c0 + 2002) K := by
  unfold T_L_st
  refine (pz.nil he).N (c0 + 1985) (by omega) fun w1 h2 Z => ?_
  refine ⟨c0 + 1773, 212, by omega, st_X1 Z fun LS h6 e0 Q => ?_⟩
  refine ⟨c0 + 1678, by omega, fun w7 hw7 => ?_⟩
  refine ⟨c0 + 2, 1676, by omega, st_X8 qc_up_s fun fa h12 t12 n12 f12 => ?_⟩
  refine ⟨by decide, by decide, c0, rfl, fun w13 hw13 => ?_⟩
  have hs := st_some Q
  have hm : ∀ n, n < 44 → LS.getD n 0 ≠ w7 := fun n hn z => hs n hn (by show h6 (LS.getD n 0) = none; rw [z]; exact hw7)
  have hf : ∀ n, n < 44 → ∀ k, k ∈ qm_ar → LS.getD n 0 ≠ fa k := fun n hn k hk z => by
    have := (n12 k hk).2
    rw [← z, qc_up_n (hm n hn)] at this
    exact hs n hn this
  have h12e : ∀ n, n < 44 → h12 (LS.getD n 0) = h6 (LS.getD n 0) := fun n hn => by
    rw [f12 _ (hm n hn) (hf n hn), qc_up_n (hm n hn)]
  have ho : ∀ n, n < 44 → LS.getD n 0 ≠ w13 := fun n hn z => by
    have := h12e n hn
    rw [z, hw13] at this
    exact hs n hn (by show h6 (LS.getD n 0) = none; rw [z]; exact this.symm)
  have om : w13 ≠ w7 := fun z => by
    have := t12.1
    rw [← z, hw13] at this
    cases this
  have of : ∀ k, k ∈ qm_ar → w13 ≠ fa k := fun k hk z => by
    have := t12.2.1 k hk
    rw [← z, hw13] at this
    cases this
  rw [← e0]
  refine hK LS fa w7 w13 _ (Q.keep (fun n hn => ?_) ⟨?_, fun k hk => ?_, t12.2.2⟩ qc_up_s om of fun n hn => ⟨hm n hn, ho n hn, hf n hn⟩)
  · show qc_up h12 w13 _ (LS.getD n 0) = h6 (LS.getD n 0)
    rw [qc_up_n (ho n hn)]
    exact h12e n hn
  · rw [qc_up_n (Ne.symm om)]
    exact t12.1
  · rw [qc_up_n (Ne.symm (of k hk))]
    exact t12.2.1 k hk
/-- the addresses, guests and all -/
def stLL (L0 : Nat → Nat) (m o : Nat) (fa : Nat → Nat) : Nat → Nat := fun n => if n < 41 then L0 n else if n = 42 then o else if 43 ≤ n ∧ (n - 43) ∈ qm_ar then fa (n - 43) else m
section
variable {g : qh_G} {L0 : Nat → Nat} {m o : Nat} {fa : Nat → Nat} {h : qc_H}
theorem stLL_lt {n : Nat} (hn : n < 41) : stLL L0 m o fa n = L0 n := if_pos hn
theorem stLL_g {n : Nat} (h1 : 41 ≤ n) : stLL L0 m o fa n = m ∨ stLL L0 m o fa n = o ∨ ∃ k, k ∈ qm_ar ∧ stLL L0 m o fa n = fa k := by
  unfold stLL
  rw [if_neg (by omega)]
  split
  · exact Or.inr (Or.inl rfl)
  · split
    · next c => exact Or.inr (Or.inr ⟨_, c.2, rfl⟩)
    · exact Or.inl rfl
/-- the heap with its arrays' numbers as the representation has them -/
def stN (g : qh_G) (L : Nat → Nat) (h : qc_H) : qc_H := qc_up (qc_up (qc_up h (L 1) (.inl (.inl (g.2.2.2.1 4, 3, .inr (.inr (.inr (.inr (fun l => some (L (10 + l)))))))))) (L 2) (.inl (.inl (g.2.2.2.1 5, 6, .inr (.inr (.inr (.inr (fun s => some (L (16 + s)))))))))) (L 3) (.inl (.inl (g.2.2.2.1 8, 6, .inr (.inr (.inr (.inr (fun s => some (L (4 + s)))))))))
theorem stN_n {L : Nat → Nat} {b : Nat} (h1 : b ≠ L 1) (h2 : b ≠ L 2) (h3 : b ≠ L 3) : stN g L h b = h b := by
  unfold stN
  rw [qc_up_n h3, qc_up_n h2, qc_up_n h1]
theorem st_lG (F : stF g L0 m o fa h) : lG (stLL L0 m o fa) m o fa := by
  obtain ⟨_, _, _, _, om, of, hn⟩ := F
  refine ⟨?_, ?_, fun k hk => ?_, fun n h1 h2 h3 => ?_, fun n hn9 k h1 h2 z => ?_, om, of⟩
  · unfold stLL
    rw [if_neg (by decide), if_neg (by decide), if_neg (by decide)]
  · unfold stLL
    rw [if_neg (by decide), if_pos rfl]
  · unfold stLL
    rw [if_neg (by omega), if_neg (by omega), if_pos ⟨by omega, by rw [show 43 + k - 43 = k by omega]; exact hk⟩, show 43 + k - 43 = k by omega]
  · unfold stLL
    rw [if_neg (by omega), if_neg h3]
    split
    · next c => exact Or.inr ⟨_, c.2, rfl⟩
    · exact Or.inl rfl
  · rw [stLL_lt hn9] at z
    obtain ⟨a1, a2, a3⟩ := hn n (by omega)
    rcases stLL_g (L0 := L0) (m := m) (o := o) (fa := fa) h1 with e | e | ⟨j, hj, e⟩
    · exact a1 (z.trans e)
    · exact a2 (z.trans e)
    · exact a3 j hj (z.trans e)
theorem st_lZ (F : stF g L0 m o fa h) : lZ g (stLL L0 m o fa) m o fa 0 (stN g (stLL L0 m o fa) h) := by
  have F0 := F
  obtain ⟨inj, ⟨q0, ⟨f1, q1, e1⟩, ⟨f2, q2, e2⟩, ⟨f3, q3, e3⟩, q4, q5, q6, q7, q8, q9, q10, q11⟩, tt, ho, om, of, hn⟩ := F
  generalize hL : stLL L0 m o fa = L
  have lt : ∀ n, n < 41 → L n = L0 n := fun n hn => by rw [← hL]; exact stLL_lt hn
  have ne : ∀ i j, i < 41 → j < 44 → i ≠ j → L i ≠ L0 j := fun i j hi hj hij z => hij (inj i j (by omega) hj ((lt i hi).symm.trans z))
  have keep : ∀ n, n < 44 → n ≠ 1 → n ≠ 2 → n ≠ 3 → stN g L h (L0 n) = h (L0 n) := fun n hn h1 h2 h3 => stN_n (fun z => ne 1 n (by omega) hn (Ne.symm h1) z.symm) (fun z => ne 2 n (by omega) hn (Ne.symm h2) z.symm) (fun z => ne 3 n (by omega) hn (Ne.symm h3) z.symm)
  have kl : ∀ n, n < 41 → n ≠ 1 → n ≠ 2 → n ≠ 3 → stN g L h (L n) = h (L0 n) := fun n hn h1 h2 h3 => by rw [lt n hn]; exact keep n (by omega) h1 h2 h3
  have gm : stN g L h m = h m := stN_n (fun z => (hn 1 (by omega)).1 (by rw [← lt 1 (by omega)]; exact z.symm)) (fun z => (hn 2 (by omega)).1 (by rw [← lt 2 (by omega)]; exact z.symm)) (fun z => (hn 3 (by omega)).1 (by rw [← lt 3 (by omega)]; exact z.symm))
  have go : stN g L h o = h o := stN_n (fun z => (hn 1 (by omega)).2.1 (by rw [← lt 1 (by omega)]; exact z.symm)) (fun z => (hn 2 (by omega)).2.1 (by rw [← lt 2 (by omega)]; exact z.symm)) (fun z => (hn 3 (by omega)).2.1 (by rw [← lt 3 (by omega)]; exact z.symm))
  have gf : ∀ k, k ∈ qm_ar → stN g L h (fa k) = h (fa k) := fun k hk => stN_n (fun z => (hn 1 (by omega)).2.2 k hk (by rw [← lt 1 (by omega)]; exact z.symm)) (fun z => (hn 2 (by omega)).2.2 k hk (by rw [← lt 2 (by omega)]; exact z.symm)) (fun z => (hn 3 (by omega)).2.2 k hk (by rw [← lt 3 (by omega)]; exact z.symm))
  have t2 : tw g m fa (stN g L h) (stS, stC) := ⟨by rw [gm]; exact tt.1, fun k hk => by rw [gf k hk]; exact tt.2.1 k hk, tt.2.2⟩
  have ho2 : stN g L h o = some (.inl (.inl (g.2.2.2.1 2, 1, .inr (.inl (fun _ => 0))))) := by rw [go]; exact ho
  have e12 : L 1 ≠ L 2 := fun z => ne 1 2 (by omega) (by omega) (by omega) (z.trans (lt 2 (by omega)))
  have e13 : L 1 ≠ L 3 := fun z => ne 1 3 (by omega) (by omega) (by omega) (z.trans (lt 3 (by omega)))
  have e23 : L 2 ≠ L 3 := fun z => ne 2 3 (by omega) (by omega) (by omega) (z.trans (lt 3 (by omega)))
  have nl : ∀ n, 22 ≤ n → n < 41 → stN g L h (L n) = some (.inr []) := fun n h1 h2 => by
    rw [kl n h2 (by omega) (by omega) (by omega)]
    have := q8 (n - 22) (by omega)
    rw [show 22 + (n - 22) = n by omega] at this
    exact this
  have nil : ∀ {α : Type} (P : Nat → α → Prop) (n : Nat), 22 ≤ n → n < 41 → qkR P (stN g L h) (L n) [] := fun P n h1 h2 => ⟨[], nl n h1 h2, qkL.nil, Nat.zero_le _⟩
  have G := st_lG F0
  rw [hL] at G
  refine ⟨stA (L0 41), stV, (stS, stC), ⟨fun _ => none, fun _ => 0, ⟨⟨fun i j hi hj z => inj i j (by omega) (by omega) (by rw [← lt i hi, ← lt j hj]; exact z), (G.gk t2 ho2).ne, fun n _ _ e z => by cases z⟩, fun a e z => (by cases z), fun n _ => rfl, fun a e z => (by cases z), ?_, ?_, ?_, ?_, fun s hs => ?_, fun s hs => ?_, fun s hs => ?_, fun s hs => ?_, fun s hs => nil _ _ (by omega) (by omega), fun s hs => nil _ _ (by omega) (by omega), nil _ _ (by omega) (by omega), nil _ _ (by omega) (by omega), nil _ _ (by omega) (by omega), nil _ _ (by omega) (by omega), nil _ _ (by omega) (by omega), nil _ _ (by omega) (by omega), nil _ _ (by omega) (by omega)⟩, ⟨L0 42, L0 43, by rw [show aLa (stA (L0 41)) = L0 41 from rfl, keep 41 (by omega) (by omega) (by omega) (by omega)]; exact q9, ⟨[], by rw [keep 42 (by omega) (by omega) (by omega) (by omega)]; exact q10, qkL.nil, Nat.zero_le _, fun a ha => by cases ha⟩, ⟨[], by rw [keep 43 (by omega) (by omega) (by omega) (by omega)]; exact q11, qkL.nil, Nat.zero_le _⟩, fun n hn z => ne n 41 hn (by omega) (by omega) z.symm, fun n hn z => ne n 42 hn (by omega) (by omega) z.symm, fun n hn z => ne n 43 hn (by omega) (by omega) z.symm, fun r hr => by cases hr⟩, t2, ho2, fun z => absurd z (by decide)⟩, st_cC, st_qkI, st_qkWb⟩
  · rw [kl 0 (by omega) (by omega) (by omega) (by omega), q0]
    show some (Sum.inl (Sum.inr (0, qkO L0 (aQ (stA 0)) (L0 41)))) = some (Sum.inl (Sum.inr (0, qkO L (aQ (stA 0)) (L0 41))))
    unfold qkO
    rw [lt 1 (by omega), lt 2 (by omega), lt 3 (by omega), lt 34 (by omega), lt 35 (by omega), lt 36 (by omega), lt 37 (by omega), lt 38 (by omega), lt 39 (by omega), lt 40 (by omega)]
  · unfold stN
    rw [qc_up_n e13, qc_up_n e12, qc_up_s]
  · unfold stN
    rw [qc_up_n e23, qc_up_s]
  · unfold stN
    rw [qc_up_s]
  · rw [kl _ (by omega) (by omega) (by omega) (by omega)]
    exact q4 s hs
  · rw [kl _ (by omega) (by omega) (by omega) (by omega), q5 s hs]
    show some (Sum.inl (Sum.inr (1, qkLine L0 s _))) = some (Sum.inl (Sum.inr (1, qkLine L s _)))
    unfold qkLine
    rw [lt _ (by omega)]
    rfl
  · rw [kl _ (by omega) (by omega) (by omega) (by omega)]
    exact q6 s hs
  · rw [kl _ (by omega) (by omega) (by omega) (by omega), q7 s hs]
    show some (Sum.inl (Sum.inr (6, qkSrc L0 s _))) = some (Sum.inl (Sum.inr (6, qkSrc L s _)))
    unfold qkSrc
    rw [lt _ (by omega), lt _ (by omega), lt _ (by omega)]
    rfl
end
