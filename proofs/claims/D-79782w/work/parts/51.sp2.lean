/-! SP 2: frames; scalars written; lay, drop, goTo, written -/
set_option maxRecDepth 100000
/-- J grows, by no list -/
def qkJs (J J' : qc_H) : Prop := qkJ J J' ∧ ∀ a xs, J' a = some (.inr xs) → J a = some (.inr xs)
theorem qkJs.rf {J : qc_H} : qkJs J J := ⟨qkJ.rf, fun _ _ h => h⟩
theorem qkJs.tr {J J' J'' : qc_H} (h : qkJs J J') (k : qkJs J' J'') : qkJs J J'' := ⟨h.1.tr k.1, fun a xs z => h.2 a xs (k.2 a xs z)⟩
theorem qkJs.up {J : qc_H} {a : Nat} {e : va_E} (h : J a = none ∨ J a = some (.inl e)) : qkJs J (qc_up J a (.inl e)) := ⟨qkJ.up h, fun b xs hb => by
  by_cases n : b = a
  · subst n
    rw [qc_up_s] at hb
    cases hb
  · rw [qc_up_n n] at hb
    exact hb⟩
/-- J grows, by lists that are new to h alone -/
def qkJw (h J J' : qc_H) : Prop := qkJ J J' ∧ ∀ a xs, J' a = some (.inr xs) → J a = some (.inr xs) ∨ h a = none
theorem qkJs.w {h J J' : qc_H} (k : qkJs J J') : qkJw h J J' := ⟨k.1, fun a xs z => Or.inl (k.2 a xs z)⟩
theorem qkJw.rf {h J : qc_H} : qkJw h J J := ⟨qkJ.rf, fun _ _ z => Or.inl z⟩
theorem qkJw.tr {h h' J J' J'' : qc_H} (k : qkJw h J J') (k' : qkJw h' J' J'') (hd : ∀ a, h' a = none → h a = none) : qkJw h J J'' := ⟨k.1.tr k'.1, fun a xs z => by
  rcases k'.2 a xs z with q | q
  · exact k.2 a xs q
  · exact Or.inr (hd a q)⟩
theorem qkJw.up {h J : qc_H} {a : Nat} {xs : List Nat} (hJ : J a = none) (ha : h a = none) : qkJw h J (qc_up J a (.inr xs)) := ⟨qkJ.up (Or.inl hJ), fun b ys hb => by
  by_cases n : b = a
  · subst n
    exact Or.inr ha
  · rw [qc_up_n n] at hb
    exact Or.inl hb⟩
/-- a list that isn't new stays one that may change -/
theorem qkJw.at {h h' J J' : qc_H} {a : Nat} {xs : List Nat} (k : qkJw h J J') (hj : qkJ J' h') (h0 : h a ≠ none) (hJ : J a = none) (h1 : h' a = some (.inr xs)) : J' a = none := by
  cases hz : J' a with
  | none => rfl
  | some e =>
    have h2 := hj a e hz
    rw [h1] at h2
    cases h2
    rcases k.2 a xs hz with q | q
    · rw [hJ] at q
      cases q
    · exact absurd q h0
/-- what isn't the component's own stays -/
def qkFr (L : Nat → Nat) (h h' : qc_H) : Prop := ∀ a, qkF L a → h a ≠ none → h' a = h a
theorem qkFr.rf {L : Nat → Nat} {h : qc_H} : qkFr L h h := fun _ _ _ => rfl
theorem qkFr.tr {L : Nat → Nat} {h h' h'' : qc_H} (p : qkFr L h h') (q : qkFr L h' h'') : qkFr L h h'' := fun a ha hn => by
  have e := p a ha hn
  rw [← e]
  exact q a ha (by rw [e]; exact hn)
theorem qkFr.up {L : Nat → Nat} {h : qc_H} {n : Nat} {e : qc_E} (hn : n < 41) : qkFr L h (qc_up h (L n) e) := fun a ha _ => qc_up_n (ha n hn)
theorem qkFr.new {L : Nat → Nat} {h : qc_H} {a : Nat} {e : qc_E} (ha : h a = none ∨ h a = some e) : qkFr L h (qc_up h a e) := fun b _ hn => by
  by_cases n : b = a
  · subst n
    rw [qc_up_s]
    rcases ha with z | z
    · exact absurd z hn
    · exact z.symm
  · exact qc_up_n n
theorem qkFr.at {L : Nat → Nat} {h h' : qc_H} {a : Nat} {e : qc_E} (p : qkFr L h h') (ha : qkF L a) (he : h a = some e) : h' a = some e := by
  rw [p a ha (by rw [he]; intro z; cases z)]
  exact he
section
variable {g : qh_G} {L : Nat → Nat} {J h : qc_H} {A : qkA} {c : Nat}
theorem kx_put {k : Nat} {v : Int32} {K : qc_H → Prop} (R : qkRep g L J h A) (hk : k < 16) (hset : (qkO L (aQ A) (aLa A)).set k (.int v) = qkO L (upd (aQ A) k v) (aLa A)) (kk : ∀ h', qkRep g L J h' (sQ A (upd (aQ A) k v)) → qkFr L h h' → K h') : eP h (L 0) 0 k (.int v) K := by
  refine ⟨_, R.x, hk, ?_⟩
  rw [hset]
  exact kk _ (R.pQ (v := upd (aQ A) k v) (la := aLa A)) (qkFr.up (by omega))
theorem kl_put {l k : Nat} {v : Int32} {K : qc_H → Prop} (R : qkRep g L J h A) (hl : l < 3) (hk : k < 10) (hset : (qkLine L l (aLn A l)).set k (.int v) = qkLine L l (upd (aLn A l) k v)) (kk : ∀ h', qkRep g L J h' (sLn A (qkU (aLn A) l (upd (aLn A l) k v))) → qkFr L h h' → K h') : eP h (L (10 + l)) 1 k (.int v) K := by
  refine ⟨_, R.line hl, hk, ?_⟩
  rw [hset]
  exact kk _ (R.pLn hl) (qkFr.up (by omega))
theorem ks_put {s k : Nat} {v : Int32} {K : qc_H → Prop} (R : qkRep g L J h A) (hs : s < 6) (hk : k < 6) (hset : (qkSrc L s (aSr A s)).set k (.int v) = qkSrc L s (upd (aSr A s) k v)) (kk : ∀ h', qkRep g L J h' (sSr A (qkU (aSr A) s (upd (aSr A s) k v))) → qkFr L h h' → K h') : eP h (L (16 + s)) 6 k (.int v) K := by
  refine ⟨_, R.src hs, hk, ?_⟩
  rw [hset]
  exact kk _ (R.pSr hs) (qkFr.up (by omega))
end
/-! lists, from either end -/
theorem tw_take {α : Type} (p : α → Bool) : ∀ (l : List α) (k : Nat), k ≤ l.length → (∀ j v, j < k → l[j]? = some v → p v = true) → (∀ v, l[k]? = some v → p v = false) → l.takeWhile p = l.take k ∧ l.dropWhile p = l.drop k
  | [], k, h, _, _ => by simp
  | a :: r, 0, _, _, h2 => by
    have := h2 a (by simp)
    simp [List.takeWhile, List.dropWhile, this]
  | a :: r, k + 1, h, h1, h2 => by
    have ha := h1 0 a (by omega) (by simp)
    obtain ⟨i1, i2⟩ := tw_take p r k (by simpa using h) (fun j v hj hv => h1 (j + 1) v (by omega) (by simpa using hv)) (fun v hv => h2 v (by simpa using hv))
    simp [List.takeWhile, List.dropWhile, ha, i1, i2]
theorem fl_get {α : Type} {vs ys : List α} {j : Nat} (hj : j < vs.length) : (vs.take (j + 1) ++ ys)[j]? = some vs[j] := by
  rw [List.getElem?_append_left (by rw [List.length_take]; omega), List.getElem?_take, if_pos (by omega), List.getElem?_eq_getElem hj]
theorem fl_keep {α : Type} {vs : List α} {p : α → Bool} {j : Nat} (hj : j < vs.length) (hp : p vs[j] = true) : vs.take (j + 1) ++ (vs.drop (j + 1)).filter p = vs.take j ++ (vs.drop j).filter p := by
  rw [List.take_succ_eq_append_getElem hj, List.drop_eq_getElem_cons hj, List.filter_cons_of_pos hp, List.append_assoc]
  rfl
theorem fl_drop {α : Type} {vs ys : List α} {j : Nat} (hj : j < vs.length) : (vs.take (j + 1) ++ ys).eraseIdx j = vs.take j ++ ys := by
  rw [List.eraseIdx_eq_take_drop_succ, List.take_append_of_le_length (by rw [List.length_take]; omega), List.take_take, Nat.min_eq_left (by omega), List.drop_append_of_le_length (by rw [List.length_take]; omega), List.drop_of_length_le (by rw [List.length_take]; omega), List.nil_append]
theorem fl_gone {α : Type} {vs : List α} {p : α → Bool} {j : Nat} (hj : j < vs.length) (hp : p vs[j] = false) : (vs.drop j).filter p = (vs.drop (j + 1)).filter p := by
  rw [List.drop_eq_getElem_cons hj, List.filter_cons_of_neg (by rw [hp]; decide)]
theorem fl_len {α : Type} {vs : List α} {p : α → Bool} {j : Nat} : (vs.take j ++ (vs.drop j).filter p).length ≤ vs.length := by
  rw [List.length_append, List.length_take]
  have := List.length_filter_le p (vs.drop j)
  rw [List.length_drop] at this
  omega
def kf_lay (rows : List qkRow) (r : qkRow) : List qkRow := rows.takeWhile (fun q => decide (¬ r.1 ≤ q.1)) ++ r :: rows.dropWhile (fun q => decide (¬ r.1 ≤ q.1))
/-- a message drops an entry -/
def kf_gone (m : qkMsg) (e : qkEnt) : Bool := decide (nI e.1 = m.1 ∧ ¬ m.2.2 ≤ e.2.2.2.2)
def kf_goTo (A : qkA) (t : Int32) : qkA := sCache (sMsg (sQ A (upd (aQ A) 15 t)) ((aMsg A).filter (fun m => decide (t < m.2.1)))) (((aCache A).filter (fun e => (aMsg A).all (fun m => !(decide (¬ t < m.2.1) && kf_gone m e)))).filter (fun e => decide (t - e.2.2.2.1 ≤ aLn A (e.1 / 2) 5)))
def kf_written (A : qkA) (s : Nat) : qkA := kf_goTo (sMsg (sWr (sQ A (upd (aQ A) 14 (aQ A 14 + 1))) (qkU (aWr A) s (aWr A s ++ [aQ A 14 + 1]))) (aMsg A ++ [(nI s, aQ A 15 + aLn A (s / 2) 2, aQ A 14 + 1)])) (aQ A 15)
section
variable {g : qh_G} {L : Nat → Nat} {J h : qc_H} {A : qkA} {c : Nat}
theorem kt_lay {s p : Nat} {r : qkRow} {K : qc_H → Prop} (R : qkRep g L J h A) (hs : s < 6) (hr : isRow g J p r) (hb : (aRow A s).length < 20000) (hc : (aRow A s).length + (aRow A s).length / 2 + 11 ≤ c) (hk : ∀ h', qkRep g L J h' (sRow A (qkU (aRow A) s (kf_lay (aRow A s) r))) → qkFr L h h' → K h') : T_X7_lay g (L (16 + s)) p h c K := by
  unfold T_X7_lay
  intro X hX
  obtain ⟨ca, r1, r2⟩ := hr
  have fin : ∀ k, k ≤ (aRow A s).length → (∀ j v, j < k → (aRow A s)[j]? = some v → decide (¬ r.1 ≤ v.1) = true) → (∀ v, (aRow A s)[k]? = some v → decide (¬ r.1 ≤ v.1) = false) → eAI g h (L (22 + s)) (nI k) p c (fun h13 c14 => K h13) := by
    intro k hkl h1 h2
    obtain ⟨e1, e2⟩ := tw_take (fun q : qkRow => decide (¬ r.1 ≤ q.1)) (aRow A s) k hkl h1 h2
    refine rl_addI (w := r) (R.rows hs) rfl hkl (R.jh _ _ r1) (Or.inl rfl) ⟨ca, r1, r2⟩ hc fun xs hx => ?_
    refine hk _ (R.pRow hs (by unfold kf_lay; rw [e1, e2]; exact hx) ?_) (qkFr.up (by omega))
    unfold kf_lay
    rw [e1, e2, List.length_append, List.length_cons, List.length_take, List.length_drop]
    omega
  have key : ∀ n k, k + n = (aRow A s).length → (∀ j v, j < k → (aRow A s)[j]? = some v → decide (¬ r.1 ≤ v.1) = true) → X (nI k) := by
    intro n
    induction n with
    | zero =>
      intro k hkn hb1
      refine hX _ ⟨_, _, R.src hs, rfl, rl_size (R.rows hs) fun J11 hJ => ⟨fun _ => hJ ⟨_, _, R.src hs, rfl, fin k (by omega) hb1 (fun v hv => ?_)⟩, fun z => absurd (nI_le (by omega) (by omega)) z⟩⟩
      rw [List.getElem?_eq_none (by omega)] at hv
      cases hv
    | succ n ih =>
      intro k hkn hb1
      have hk' : k < (aRow A s).length := by omega
      refine hX _ ⟨_, _, R.src hs, rfl, rl_size (R.rows hs) fun J11 hJ => ⟨fun z => absurd z (nI_ge (by omega) (by omega)), fun _ => ?_⟩⟩
      refine ⟨_, _, R.src hs, rfl, rl_get (R.rows hs) rfl (List.getElem?_eq_getElem hk') fun y hy => ?_⟩
      obtain ⟨cy, y1, y2⟩ := hy
      refine ⟨⟨_, R.jh _ _ y1⟩, _, _, R.jh _ _ y1, rfl, _, _, R.jh _ _ r1, rfl, fun z => ?_, fun z => ?_⟩
      · refine hJ ⟨_, _, R.src hs, rfl, fin k (by omega) hb1 (fun v hv => ?_)⟩
        rw [List.getElem?_eq_getElem hk'] at hv
        cases hv
        simpa using z
      · rw [nI_1]
        refine ih (k + 1) (by omega) fun j v hj hv => ?_
        by_cases e : j = k
        · subst e
          rw [List.getElem?_eq_getElem hk'] at hv
          cases hv
          simpa using z
        · exact hb1 j v (by omega) hv
  exact key (aRow A s).length 0 (by omega) (fun j v hj => absurd hj (Nat.not_lt_zero j))
theorem kt_drop {m : Nat} {v : qkMsg} {K : qc_H → Prop} (R : qkRep g L J h A) (hm : isMsg J m v) (hk : ∀ h', qkRep g L J h' (sCache A ((aCache A).filter (fun e => !kf_gone v e))) → qkFr L h h' → K h') : T_X1_drop g (L 0) m h K := by
  unfold T_X1_drop
  have hm' : J m = some (.inl (.inr (9, [.int v.1, .int v.2.1, .int v.2.2]))) := hm
  have hlen := R.cache.choose_spec.2.2
  refine ⟨_, _, R.x, rfl, rl_size R.cache fun X hX => ?_⟩
  have key : ∀ k h', k ≤ (aCache A).length → qkRep g L J h' (sCache A ((aCache A).take k ++ ((aCache A).drop k).filter (fun e => !kf_gone v e))) → qkFr L h h' → X (nI k - 1) h' := by
    intro k
    induction k with
    | zero =>
      intro h' _ R' F'
      refine hX _ _ ⟨fun _ => hk h' (by simpa using R') F', fun z => absurd (by decide) z⟩
    | succ k ih =>
      intro h' hkl R' F'
      rw [nI_pred]
      have hkl' : k < (aCache A).length := by omega
      refine hX _ _ ⟨fun z => absurd z (nI_pos (by omega)), fun _ => ?_⟩
      refine ⟨_, _, R'.x, rfl, rl_get R'.cache rfl (fl_get hkl') fun y hy => ?_⟩
      obtain ⟨cl, rl, y0, y1, y2, y3⟩ := hy
      have e1 : nI k + (-1) = nI k - 1 := by rw [Int32.sub_eq_add_neg]
      refine ⟨⟨_, R'.jh _ _ y1⟩, _, _, R'.jh _ _ y1, rfl, _, _, R'.src y0, rfl, _, _, R'.jh _ _ hm', rfl, fun z => ?_, fun z => ⟨_, _, R'.jh _ _ y1, rfl, _, _, R'.jh _ _ hm', rfl, fun z2 => ?_, fun z2 => ?_⟩⟩
      · rw [e1]
        refine ih h' (by omega) ?_ F'
        have hp : (fun e => !kf_gone v e) (aCache A)[k] = true := by simp [kf_gone, z]
        rw [fl_keep hkl' hp] at R'
        exact R'
      · rw [e1]
        refine ih h' (by omega) ?_ F'
        have hp : (fun e => !kf_gone v e) (aCache A)[k] = true := by simp [kf_gone, z2]
        rw [fl_keep hkl' hp] at R'
        exact R'
      · refine ⟨_, _, R'.x, rfl, rl_rem R'.cache rfl (fl_get hkl') fun z' xs _ hx => ?_⟩
        rw [e1]
        have hp : (fun e => !kf_gone v e) (aCache A)[k] = false := by simp [kf_gone, z, z2]
        have hx' : qkL (isEnt g L J) xs ((aCache A).take k ++ ((aCache A).drop k).filter (fun e => !kf_gone v e)) := by
          rw [fl_gone hkl' hp, ← fl_drop hkl']
          exact hx
        exact ih _ (by omega) (R'.pCache hx' (Nat.le_trans fl_len hlen)) (F'.tr (qkFr.up (by omega)))
  exact key (aCache A).length h (by omega) (by simpa using R) qkFr.rf
end
