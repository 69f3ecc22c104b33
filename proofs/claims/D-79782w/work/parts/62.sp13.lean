/-! SP 13: the next seat; keys; rows into order -/
set_option maxRecDepth 100000
def kf_kpl (ks : List Int32) (v : Int32) : Nat := (ks.takeWhile (fun k => decide (¬ v ≤ k))).length
def kf_ins (ks : List Int32) (v : Int32) : List Int32 := if (kf_num v && (ks[kf_kpl ks v]?.all (fun k => decide (¬ k = v)))) = true then ks.take (kf_kpl ks v) ++ v :: ks.drop (kf_kpl ks v) else ks
def kf_keys (col : Int32) (rows : List qkRow) : List Int32 := rows.foldl (fun ks r => kf_ins ks (r.2 col.toNatClampNeg)) []
/-- the place of a row among rows, looked for from k down -/
def kf_opl (l : List qkRow) (r : qkRow) : Nat → Nat
  | 0 => 0
  | k + 1 => if (l[k]?.any (fun q => decide (¬ q.1 ≤ r.1))) = true then kf_opl l r k else k + 1
def kf_oins (l : List qkRow) (r : qkRow) : List qkRow := l.take (kf_opl l r l.length) ++ r :: l.drop (kf_opl l r l.length)
def kf_order (rows : List qkRow) : List qkRow := rows.foldl kf_oins []
theorem foldl_snoc {α β : Type} {f : β → α → β} {b : β} {l : List α} {k : Nat} (hk : k < l.length) : (l.take (k + 1)).foldl f b = f ((l.take k).foldl f b) l[k] := by
  rw [List.take_succ_eq_append_getElem hk, List.foldl_append]
  rfl
theorem kf_opl_le {l : List qkRow} {r : qkRow} : ∀ {k : Nat}, kf_opl l r k ≤ k
  | 0 => Nat.le_refl _
  | k + 1 => by
    rw [kf_opl]
    split
    · exact Nat.le_succ_of_le kf_opl_le
    · exact Nat.le_refl _
theorem kf_oins_len {l : List qkRow} {r : qkRow} : (kf_oins l r).length = l.length + 1 := by
  unfold kf_oins
  have := kf_opl_le (l := l) (r := r) (k := l.length)
  rw [List.length_append, List.length_cons, List.length_take, List.length_drop]
  omega
theorem kf_order_len : ∀ {rows : List qkRow} {b : List qkRow}, (rows.foldl kf_oins b).length = rows.length + b.length
  | [], b => by simp
  | r :: t, b => by
    rw [List.foldl_cons, kf_order_len, kf_oins_len, List.length_cons]
    omega
theorem kf_ins_len {ks : List Int32} {v : Int32} : (kf_ins ks v).length ≤ ks.length + 1 := by
  unfold kf_ins
  split
  · rw [List.length_append, List.length_cons, List.length_take, List.length_drop]
    omega
  · omega
theorem kf_keys_len {col : Int32} : ∀ {rows : List qkRow} {b : List Int32}, (rows.foldl (fun ks r => kf_ins ks (r.2 col.toNatClampNeg)) b).length ≤ rows.length + b.length
  | [], b => by simp
  | r :: t, b => by
    rw [List.foldl_cons]
    have h1 := kf_keys_len (col := col) (rows := t) (b := kf_ins b (r.2 col.toNatClampNeg))
    have h2 := kf_ins_len (ks := b) (v := r.2 col.toNatClampNeg)
    rw [List.length_cons]
    omega
section
variable {g : qh_G} {L : Nat → Nat} {J h : qc_H} {A : qkA} {c : Nat}
theorem kt_next {al n : Nat} {sa rl : Nat → Nat} {ss : Nat → qkSeat} {K : Option Nat → Prop} (R : qkRep g L J h A) (S : qkSs g L J h al n sa rl ss) (hk : K ((kf_next A n ss).map sa)) : T_X1_next g (L 0) al h K := by
  unfold T_X1_next
  have S0 := S
  obtain ⟨hn, ⟨F, hF, hF2⟩, hs, hinj⟩ := S
  refine ⟨_, hF, fun X hX => ?_⟩
  have key : ∀ m k, k + m = n → X ((kf_nextS A n ss k).1.map sa) (b2 (kf_nextS A n ss k).2) (nI k) := by
    intro m
    induction m with
    | zero =>
      intro k hkm
      have e : k = n := by omega
      subst e
      exact hX _ _ _ ⟨fun _ => hk, fun z => absurd (nI_le (Nat.le_refl _) (by omega)) z⟩
    | succ m ih =>
      intro k hkm
      have hkn : k < n := by omega
      obtain ⟨ol, sl, s1, s2, s3, s4, s5, s6⟩ := hs k hkn
      refine hX _ _ _ ⟨fun z => absurd z (nI_ge hkn (by omega)), fun _ => ⟨_, _, sa k, hF, vp_in_nI hkn (by omega), by rw [nI_clamp (by omega)]; exact hF2 k hkn, _, (ss k).2.2.2.2 5, s1, rfl, fun z => ?_, fun z => ⟨⟨_, R.x⟩, kt_linkOf R S0 hkn fun r h1 h2 => ?_⟩⟩⟩
      · have e : kf_nextS A n ss (k + 1) = kf_nextS A n ss k := by rw [kf_nextS, if_pos (by simp [kf_taken, z])]
        rw [nI_1, ← e]
        exact ih (k + 1) (by omega)
      · intro J13 hJ13
        have hnt : ¬ kf_taken ss k = true := by simp [kf_taken, z]
        have main : J13 (b2 (kf_has A n ss k)) := by
          refine hJ13 _ fun J27 hJ27 => ?_
          -- which is best
          have fin : J27 ((kf_nextS A n ss k).1.map sa) (b2 (kf_better A n ss (kf_nextS A n ss k).1 (kf_nextS A n ss k).2 k)) := by
            refine hJ27 _ _ fun J31 hJ31 => ?_
            have next := ih (k + 1) (by omega)
            rw [kf_nextS, if_neg hnt] at next
            refine ⟨fun q => ?_, fun q => ?_⟩
            · refine hJ31 _ fun J34 hJ34 => ?_
              rw [if_neg (by rw [b2_eq0.mp q]; decide)] at next
              have hne : ¬ (kf_nextS A n ss k).1.map sa = some (sa k) := by
                intro e
                cases hb : (kf_nextS A n ss k).1 with
                | none => rw [hb] at e; cases e
                | some b =>
                  rw [hb] at e
                  have hlt := kf_nextS_lt hb
                  have := hinj b k (by omega) hkn (Option.some.inj e)
                  omega
              exact ⟨fun _ => hJ34 _ (by rw [nI_1]; exact next), fun e => absurd e hne⟩
            · refine hJ31 _ fun J34 hJ34 => ?_
              rw [if_pos (b2_n0.mp q)] at next
              exact ⟨fun e => absurd rfl e, fun _ => hJ34 _ (by rw [nI_1]; exact next)⟩
          cases hb : (kf_nextS A n ss k).1 with
          | none =>
            rw [hb] at fin
            exact ⟨fun _ => fin, fun y e => by cases e⟩
          | some b =>
            rw [hb] at fin
            have hlt := kf_nextS_lt hb
            obtain ⟨olb, slb, b1, b2', b3, b4, b5, b6⟩ := hs b (by omega)
            refine ⟨fun e => (by cases e), fun y e => ?_⟩
            cases e
            generalize (kf_nextS A n ss k).2 = il at fin ⊢
            unfold kf_better at fin
            have cmp : (decide (kf_has A n ss k = il) = true) → (kf_has A n ss k && !il) = false → eC h (sa k) 13 (T_X14_guess g (sa k) h (fun r19 => eC h (sa b) 13 (T_X14_guess g (sa b) h (fun r20 => (r20 ≤ r19 → J27 (some (sa b)) 0) ∧ (¬ r20 ≤ r19 → J27 (some (sa b)) 1))))) := by
              intro e1 e2
              refine ⟨⟨_, s1⟩, kt_guess R s2 s1 s4 ⟨⟨_, b1⟩, kt_guess R b2' b1 b4 ⟨fun q => ?_, fun q => ?_⟩⟩⟩
              · have : decide (¬ kf_sguess A (ss b) ≤ kf_sguess A (ss k)) = false := by simp only [decide_eq_false_iff_not, Classical.not_not]; exact q
                simp only [e2, e1, this] at fin
                exact fin
              · have : decide (¬ kf_sguess A (ss b) ≤ kf_sguess A (ss k)) = true := by simp only [decide_eq_true_eq]; exact q
                simp only [e2, e1, this] at fin
                exact fin
            refine ⟨fun q => ⟨fun q1 => ?_, fun q1 => cmp ?_ ?_⟩, fun q => ⟨fun q1 => ?_, fun q1 => ⟨fun q2 => ?_, fun q2 => cmp ?_ ?_⟩⟩⟩
            · have e1 := b2_eq0.mp q
              cases il with
              | false => rw [e1] at q1; exact absurd rfl q1
              | true => simp only [e1] at fin; exact fin
            · have e1 := b2_eq0.mp q
              cases il with
              | false => rw [e1]; rfl
              | true => rw [e1] at q1; cases q1
            · rw [b2_eq0.mp q]; rfl
            · have e1 := b2_n0.mp q
              have e2 := b2_eq0.mp q1
              simp only [e1, e2] at fin
              exact fin
            · have e1 := b2_n0.mp q
              have e2 := b2_n0.mp q1
              rw [e1, e2] at q2
              exact absurd rfl q2
            · rw [b2_n0.mp q, b2_n0.mp q1]; rfl
            · rw [b2_n0.mp q, b2_n0.mp q1]; rfl
        refine ⟨fun e => ?_, fun y e => ?_⟩
        · cases hq : kf_linkOf A n ss ((ss k).2.2.2.2 0) with
          | none =>
            have : kf_has A n ss k = false := by unfold kf_has; rw [hq]; rfl
            rw [this] at main
            exact main
          | some i =>
            exfalso
            have hi : i < (aLink A).length := by
              unfold kf_linkOf at hq
              rw [List.findIdx?_eq_some_iff_getElem] at hq
              exact hq.1
            obtain ⟨p, e1, -⟩ := h2 i _ hq (List.getElem?_eq_getElem hi)
            rw [e1] at e
            cases e
        · cases hq : kf_linkOf A n ss ((ss k).2.2.2.2 0) with
          | none =>
            rw [h1 hq] at e
            cases e
          | some i =>
            have : kf_has A n ss k = true := by unfold kf_has; rw [hq]; rfl
            rw [this] at main
            exact main
  exact key n 0 (by omega)
theorem kt_keysOf {rl : Nat} {col : Int32} {rows : List qkRow} {K : Nat → qc_H → Prop} (R : qkRep g L J h A) (hrl : qkR (isRow g J) h rl rows) (hrF : qkF L rl) (hrn : rows.length ≤ 12) (hcol : ∃ q, q < 4 ∧ col = nI q) (hc : 380 ≤ c)
    (hk : ∀ J' h' w, qkJs J J' → qkRep g L J' h' A → h w = none → qkF L w → J' w = none → qkR (isInt J') h' w (kf_keys col rows) → qkFr L h h' → K w h') : T_X1_keysOf g rl col h c K := by
  unfold T_X1_keysOf
  obtain ⟨q, hq, hcq⟩ := hcol
  refine kt_newL (by omega) fun w hw => ?_
  have hwF := R.fresh hw
  have hwJ := R.Jn hw
  obtain ⟨xr, xr1, xr2, xr3⟩ := hrl
  have hnr : rl ≠ w := by
    intro z
    rw [z, hw] at xr1
    cases xr1
  intro X hX
  have key : ∀ m k J1 h1 c1, k + m = rows.length → 31 * m ≤ c1 → qkJs J J1 → qkRep g L J1 h1 A → J1 w = none → qkR (isInt J1) h1 w (kf_keys col (rows.take k)) → qkFr L h h1 → X (nI k) h1 c1 := by
    intro m
    induction m with
    | zero =>
      intro k J1 h1 c1 hkm hc1 k1 R1 hJ1 hw1 F1
      rw [show rows.take k = rows from List.take_of_length_le (by omega)] at hw1
      refine hX _ _ _ (rl_size (P := isRow g J) ⟨xr, F1.at hrF xr1, xr2, xr3⟩ ⟨fun _ => hk J1 h1 w k1 R1 hw hwF hJ1 hw1 F1, fun z => absurd (nI_le (by omega) (by omega)) z⟩)
    | succ m ih =>
      intro k J1 h1 c1 hkm hc1 k1 R1 hJ1 hw1 F1
      have hk' : k < rows.length := by omega
      refine hX _ _ _ (rl_size (P := isRow g J) ⟨xr, F1.at hrF xr1, xr2, xr3⟩ ⟨fun z => absurd z (nI_ge (by omega) (by omega)), fun _ => rl_get (P := isRow g J) ⟨xr, F1.at hrF xr1, xr2, xr3⟩ rfl (List.getElem?_eq_getElem hk') fun y hy => ?_⟩)
      obtain ⟨ca, y1, y2⟩ := hy
      have y1' := R1.jh _ _ (k1.1 _ _ y1)
      have y2' := R1.jh _ _ (k1.1 _ _ y2)
      refine ⟨⟨_, y1'⟩, _, _, y1', rfl, 4, rows[k].2, y2', by rw [hcq]; exact vp_in_nI hq (by decide), fun X13 hX13 => ?_⟩
      have hks : kf_keys col (rows.take (k + 1)) = kf_ins (kf_keys col (rows.take k)) (rows[k].2 col.toNatClampNeg) := by unfold kf_keys; exact foldl_snoc hk'
      have hkl : (kf_keys col (rows.take k)).length ≤ k := by
        have := kf_keys_len (col := col) (rows := rows.take k) (b := [])
        rw [List.length_take] at this
        unfold kf_keys
        simp only [List.length_nil] at this
        omega
      generalize rows[k].2 col.toNatClampNeg = v at hks hX13 ⊢
      generalize kf_keys col (rows.take k) = ks at hw1 hks hkl ⊢
      -- the place is found
      have done : ∀ p, p ≤ ks.length → kf_kpl ks v = p → ∀ J20 : Prop, ((T_X1_isNumber g v h1 (fun r21 => (r21 = 0 → X (nI k + 1) h1 c1) ∧ (¬ r21 = 0 → eSz h1 w (fun n24 => (nI p = n24 → eBx h1 v c1 (fun w28 h26 c27 => eAI g h26 w (nI p) w28 c27 (fun h29 c30 => X (nI k + 1) h29 c30))) ∧ (¬ nI p = n24 → eGt h1 w (nI p) (fun p31 => eC h1 p31 17 (eB h1 p31 (fun v32 => (v32 = v → X (nI k + 1) h1 c1) ∧ (¬ v32 = v → eBx h1 v c1 (fun w36 h34 c35 => eAI g h34 w (nI p) w36 c35 (fun h37 c38 => X (nI k + 1) h37 c38))))))))))) → J20) → J20 := by
        intro p hp hpl J20 hJ20
        refine hJ20 (kt_isNumber ?_)
        have same : kf_ins ks v = ks → X (nI k + 1) h1 c1 := by
          intro e
          rw [nI_1]
          exact ih (k + 1) J1 h1 c1 (by omega) (by omega) k1 R1 hJ1 (by rw [hks, e]; exact hw1) F1
        have ins : kf_ins ks v = ks.take p ++ v :: ks.drop p → eBx h1 v c1 (fun w28 h26 c27 => eAI g h26 w (nI p) w28 c27 (fun h29 c30 => X (nI k + 1) h29 c30)) := by
          intro e
          refine kt_box R1 (by omega) fun a J2 k2 R2 F2 hi => ?_
          have hJ2 : J2 w = none := by
            obtain ⟨xs, x1, -⟩ := hw1
            have hwn : h1 w ≠ none := by rw [x1]; intro z; cases z
            have h2w := F2.at hwF x1
            exact (k2.w (h := h1)).at R2.jh hwn hJ1 h2w
          have hw2 : qkR (isInt J2) (qc_up h1 a (.inl (.inr (17, [.int v])))) w ks := hw1.mono (fun e z => F2.at hwF z) (isInt.mono k2.1)
          refine rl_addI (w := v) hw2 rfl hp qc_up_s (Or.inr (Or.inr (Or.inr (Or.inr (Or.inr (Or.inr (Or.inr rfl))))))) hi (by omega) fun xs hxs => ?_
          rw [nI_1]
          refine ih (k + 1) J2 _ _ (by omega) (by omega) (k1.tr k2) (R2.other hwF hJ2) hJ2 ?_ ((F1.tr F2).up2 hw)
          rw [hks, e]
          exact ⟨xs, qc_up_s, hxs, by rw [List.length_append, List.length_cons, List.length_take, List.length_drop]; omega⟩
        refine ⟨fun z => same ?_, fun z => rl_size hw1 ⟨fun z1 => ins ?_, fun z1 => ?_⟩⟩
        · unfold kf_ins
          rw [if_neg (by rw [b2_eq0.mp z]; simp)]
        · have : p = ks.length := (nI_eq (by omega) (by omega)).mp z1
          unfold kf_ins
          rw [if_pos (by rw [b2_n0.mp z, hpl, List.getElem?_eq_none (by omega)]; rfl), hpl]
        · have hne : p ≠ ks.length := fun e => z1 (by rw [e])
          have hpk : p < ks.length := by omega
          refine rl_get hw1 rfl (List.getElem?_eq_getElem hpk) fun y3 hy3 => ?_
          have hy4 : J1 y3 = some (.inl (.inr (17, [.int ks[p]]))) := hy3
          refine ⟨⟨_, R1.jh _ _ hy4⟩, _, R1.jh _ _ hy4, fun z2 => same ?_, fun z2 => ins ?_⟩
          · unfold kf_ins
            rw [if_neg]
            rw [hpl, List.getElem?_eq_getElem hpk]
            simp [z2]
          · unfold kf_ins
            rw [if_pos, hpl]
            rw [b2_n0.mp z, hpl, List.getElem?_eq_getElem hpk]
            simp [z2]
      have key2 : ∀ m p, p + m = ks.length → (∀ j u, j < p → ks[j]? = some u → decide (¬ v ≤ u) = true) → X13 (nI p) := by
        intro m
        induction m with
        | zero =>
          intro p hpm hb
          refine hX13 _ (rl_size hw1 fun J20 hJ20 => ⟨fun _ => done p (by omega) ?_ J20 hJ20, fun z => absurd (nI_le (by omega) (by omega)) z⟩)
          have := (tw_take (fun u : Int32 => decide (¬ v ≤ u)) ks p (by omega) hb (fun u hu => by rw [List.getElem?_eq_none (by omega)] at hu; cases hu)).1
          unfold kf_kpl
          rw [this, List.length_take]
          omega
        | succ m ih2 =>
          intro p hpm hb
          have hpk : p < ks.length := by omega
          refine hX13 _ (rl_size hw1 fun J20 hJ20 => ⟨fun z => absurd z (nI_ge (by omega) (by omega)), fun _ => rl_get hw1 rfl (List.getElem?_eq_getElem hpk) fun y3 hy3 => ?_⟩)
          have hy4 : J1 y3 = some (.inl (.inr (17, [.int ks[p]]))) := hy3
          refine ⟨⟨_, R1.jh _ _ hy4⟩, _, R1.jh _ _ hy4, fun z => done p (by omega) ?_ J20 hJ20, fun z => ?_⟩
          · have := (tw_take (fun u : Int32 => decide (¬ v ≤ u)) ks p (by omega) hb (fun u hu => by rw [List.getElem?_eq_getElem hpk] at hu; cases hu; simpa using z)).1
            unfold kf_kpl
            rw [this, List.length_take]
            omega
          · rw [nI_1]
            refine ih2 (p + 1) (by omega) fun j u hj hu => ?_
            by_cases e : j = p
            · subst e
              rw [List.getElem?_eq_getElem hpk] at hu
              cases hu
              simpa using z
            · exact hb j u (by omega) hu
      exact key2 ks.length 0 (by omega) (fun j u hj => absurd hj (Nat.not_lt_zero j))
  refine key rows.length 0 J _ _ (by omega) (by omega) qkJs.rf (R.other (e := .inr []) hwF hwJ) hwJ ?_ (qkFr.rf.up2 hw)
  rw [List.take_zero]
  exact ⟨[], qc_up_s, qkL.nil, Nat.zero_le _⟩
theorem kt_order {rl : Nat} {rows : List qkRow} {K : qc_H → Prop} (R : qkRep g L J h A) (hrl : qkR (isRow g J) h rl rows) (hrF : qkF L rl) (hrJ : J rl = none)
    (hk : ∀ h', qkRep g L J h' A → qkR (isRow g J) h' rl (kf_order rows) → qkFx L (fun a => a = rl) h h' → K h') : T_X1_order g rl h K := by
  unfold T_X1_order
  have hlen := hrl.choose_spec.2.2
  intro X hX
  have key : ∀ m k h1, k + m = rows.length → qkRep g L J h1 A → qkR (isRow g J) h1 rl ((rows.take k).foldl kf_oins [] ++ rows.drop k) → qkFx L (fun a => a = rl) h h1 → X (nI k) h1 := by
    intro m
    induction m with
    | zero =>
      intro k h1 hkm R1 hr1 F1
      have e1 : rows.take k = rows := List.take_of_length_le (by omega)
      have e2 : rows.drop k = [] := List.drop_of_length_le (by omega)
      have e3 : (rows.foldl kf_oins []).length = rows.length := by rw [kf_order_len]; simp
      rw [e1, e2, List.append_nil] at hr1
      refine hX _ _ (rl_size hr1 ⟨fun _ => hk h1 R1 hr1 F1, fun z => absurd (nI_le (by omega) (by omega)) z⟩)
    | succ m ih =>
      intro k h1 hkm R1 hr1 F1
      have hk' : k < rows.length := by omega
      have hSl : ((rows.take k).foldl kf_oins []).length = k := by rw [kf_order_len, List.length_take]; simp; omega
      have hnext : (rows.take (k + 1)).foldl kf_oins [] = kf_oins ((rows.take k).foldl kf_oins []) rows[k] := foldl_snoc hk'
      have hdk : rows.drop k = rows[k] :: rows.drop (k + 1) := List.drop_eq_getElem_cons hk'
      rw [hdk] at hr1
      generalize (rows.take k).foldl kf_oins [] = S at hr1 hSl hnext
      have hll : (S ++ rows[k] :: rows.drop (k + 1)).length = rows.length := by rw [List.length_append, List.length_cons, List.length_drop]; omega
      refine hX _ _ (rl_size hr1 ⟨fun z => absurd z (nI_ge (by rw [hll]; omega) (by rw [hll]; omega)), fun _ => rl_get (v := rows[k]) hr1 rfl (by rw [List.getElem?_append_right (by omega), hSl]; simp) fun y hy => ?_⟩)
      have hrow := hy
      obtain ⟨ca, y1, y2⟩ := hy
      refine ⟨⟨_, R1.jh _ _ y1⟩, fun X7 hX7 => ?_⟩
      -- with a gap at p
      have key2 : ∀ p h2, p ≤ k → kf_opl S rows[k] k = kf_opl S rows[k] p → qkRep g L J h2 A → (∃ x, qkR (isRow g J) h2 rl (S.take p ++ x :: S.drop p ++ rows.drop (k + 1))) → qkFx L (fun a => a = rl) h h2 → X7 (nI p) h2 := by
        intro p
        induction p with
        | zero =>
          intro h2 hp hopl R2 hr2 F2
          obtain ⟨x, hr2⟩ := hr2
          refine hX7 _ _ fun J18 hJ18 => ⟨fun _ => hJ18 ?_, fun z => absurd (by decide) z⟩
          refine rl_set (w := rows[k]) hr2 rfl (v := x) (by simp) (R2.jh _ _ y1) (Or.inl rfl) hrow fun z xs _ hxs => ?_
          rw [nI_1]
          refine ih (k + 1) _ (by omega) (R2.other hrF hrJ) ?_ (F2.tr (qkFx.up rfl))
          rw [hnext]
          have e0 : kf_opl S rows[k] S.length = 0 := by rw [hSl, hopl]; rfl
          unfold kf_oins
          rw [e0]
          refine ⟨xs, qc_up_s, ?_, ?_⟩
          · simpa using hxs
          · simp only [List.take_zero, List.drop_zero, List.nil_append, List.length_append, List.length_cons, List.length_drop]
            omega
        | succ p ih2 =>
          intro h2 hp hopl R2 hr2 F2
          obtain ⟨x, hr2⟩ := hr2
          have hpS : p < S.length := by omega
          refine hX7 _ _ fun J18 hJ18 => ⟨fun z => absurd z (nI_nle (by omega) (by omega)), fun _ => ?_⟩
          rw [nI_pred]
          have hgp : (S.take (p + 1) ++ x :: S.drop (p + 1) ++ rows.drop (k + 1))[p]? = some S[p] := by
            rw [List.append_assoc, List.getElem?_append_left (by rw [List.length_take]; omega), List.getElem?_take, if_pos (by omega), List.getElem?_eq_getElem hpS]
          refine rl_get hr2 rfl hgp fun y3 hy3 => ?_
          obtain ⟨cb, z1, z2⟩ := hy3
          refine ⟨⟨_, R2.jh _ _ z1⟩, _, S[p].1, R2.jh _ _ z1, rfl, _, rows[k].1, R2.jh _ _ y1, rfl, fun z => hJ18 ?_, fun z => ?_⟩
          · refine rl_set (w := rows[k]) hr2 rfl (v := x) ?_ (R2.jh _ _ y1) (Or.inl rfl) hrow fun z' xs _ hxs => ?_
            · rw [List.append_assoc, List.getElem?_append_right (by rw [List.length_take]; omega), List.length_take, Nat.min_eq_left (by omega)]
              simp
            rw [nI_1]
            refine ih (k + 1) _ (by omega) (R2.other hrF hrJ) ?_ (F2.tr (qkFx.up rfl))
            rw [hnext]
            have e0 : kf_opl S rows[k] S.length = p + 1 := by
              rw [hSl, hopl, kf_opl, if_neg]
              rw [List.getElem?_eq_getElem hpS]
              simpa using z
            unfold kf_oins
            rw [e0]
            refine ⟨xs, qc_up_s, ?_, ?_⟩
            · have e5 : (S.take (p + 1) ++ x :: S.drop (p + 1) ++ rows.drop (k + 1)).set (p + 1) rows[k] = S.take (p + 1) ++ rows[k] :: S.drop (p + 1) ++ rows.drop (k + 1) := by
                rw [List.append_assoc, List.set_append_right _ _ (by rw [List.length_take]; omega), List.length_take, Nat.min_eq_left (by omega), Nat.sub_self, List.append_assoc]
                rfl
              rw [← e5]
              exact hxs
            · simp only [List.length_append, List.length_cons, List.length_take, List.length_drop]
              omega
          · refine rl_get hr2 rfl hgp fun y4 hy4 => ?_
            have hrow4 := hy4
            obtain ⟨cb4, z3, z4⟩ := hy4
            refine ⟨⟨_, R2.jh _ _ z3⟩, rl_set (w := S[p]) hr2 rfl (v := x) ?_ (R2.jh _ _ z3) (Or.inl rfl) hrow4 fun z' xs _ hxs => ?_⟩
            · rw [List.append_assoc, List.getElem?_append_right (by rw [List.length_take]; omega), List.length_take, Nat.min_eq_left (by omega)]
              simp
            rw [pk_m1]
            refine ih2 _ (by omega) ?_ (R2.other hrF hrJ) ⟨S[p], xs, qc_up_s, ?_, ?_⟩ (F2.tr (qkFx.up rfl))
            · rw [hopl, kf_opl, if_pos]
              rw [List.getElem?_eq_getElem hpS]
              simpa using z
            · have e5 : (S.take (p + 1) ++ x :: S.drop (p + 1) ++ rows.drop (k + 1)).set (p + 1) S[p] = S.take p ++ S[p] :: S.drop p ++ rows.drop (k + 1) := by
                rw [List.append_assoc, List.set_append_right _ _ (by rw [List.length_take]; omega), List.length_take, Nat.min_eq_left (by omega), Nat.sub_self, List.take_succ_eq_append_getElem hpS, List.drop_eq_getElem_cons hpS]
                simp only [List.append_assoc, List.cons_append, List.nil_append, List.set_cons_zero]
              rw [← e5]
              exact hxs
            · simp only [List.length_append, List.length_cons, List.length_take, List.length_drop]
              omega
      refine key2 k h1 (Nat.le_refl _) rfl R1 ⟨rows[k], ?_⟩ F1
      rw [show S.take k = S from List.take_of_length_le (by omega), show S.drop k = [] from List.drop_of_length_le (by omega)]
      simpa using hr1
  by_cases h0 : rows.length = 0
  · have e : rows = [] := List.eq_nil_of_length_eq_zero h0
    subst e
    refine hX _ _ (rl_size hrl ⟨fun _ => hk h R hrl qkFx.rf, fun z => absurd (by decide) z⟩)
  · refine key (rows.length - 1) 1 h (by omega) R ?_ qkFx.rf
    obtain ⟨r, t, e⟩ := List.exists_cons_of_ne_nil (l := rows) (by intro z; rw [z] at h0; exact h0 rfl)
    subst e
    exact hrl
end
