/-! SQ 23: all choices of rows, one behind the other -/
set_option maxRecDepth 100000
/-- all choices; links asked of a whole choice -/
def kf_enum (A : qkA) (rss : Nat → List qkRow) : Nat → Nat → (Nat → qkRow) → List qkV → List qkV
  | 0, _, Mt, vs => if kf_lall (aLink A) Mt = true then kf_tell A Mt vs else vs
  | m + 1, s, Mt, vs => (rss s).foldl (fun ws r => kf_enum A rss m (s + 1) (qkU Mt s r) ws) vs
theorem foldl_same {α β : Type} {f : β → α → β} : ∀ {l : List α} {b : β}, (∀ b a, a ∈ l → f b a = b) → l.foldl f b = b := by
  intro l
  induction l with
  | nil => intro b _; rfl
  | cons x l ih =>
    intro b h
    rw [List.foldl_cons, h b x (List.mem_cons_self ..), ih (fun b a ha => h b a (List.mem_cons_of_mem _ ha))]
theorem foldl_cg {α β : Type} {f g : β → α → β} : ∀ {l : List α} {b : β}, (∀ b a, a ∈ l → f b a = g b a) → l.foldl f b = l.foldl g b := by
  intro l
  induction l with
  | nil => intro b _; rfl
  | cons x l ih =>
    intro b h
    rw [List.foldl_cons, List.foldl_cons, h b x (List.mem_cons_self ..), ih (fun b a ha => h b a (List.mem_cons_of_mem _ ha))]
theorem enum_step {A : qkA} {rss : Nat → List qkRow} {n : Nat} (hn : n ≤ 3) (hl : ∀ l ∈ aLink A, ∃ a b, a < b ∧ b < n ∧ l.1 = nI a ∧ l.2.2.1 = nI b) : ∀ {m s : Nat} {Mt : Nat → qkRow} {vs : List qkV}, s + m = n → ((∀ l ∈ aLink A, ∀ a b, l.1 = nI a → l.2.2.1 = nI b → a < b → b < s → kf_lholds l (Mt a) (Mt b) = true) → kf_enum A rss m s Mt vs = kf_step A rss m s Mt vs) ∧ ((∃ l ∈ aLink A, ∃ a b, l.1 = nI a ∧ l.2.2.1 = nI b ∧ a < b ∧ b < s ∧ kf_lholds l (Mt a) (Mt b) = false) → kf_enum A rss m s Mt vs = vs) := by
  intro m
  induction m with
  | zero =>
    intro s Mt vs hs
    have hs : s = n := by omega
    subst hs
    refine ⟨fun h => ?_, fun ⟨l, hm, a, b, e1, e2, hab, hb, hf⟩ => ?_⟩
    · show (if kf_lall (aLink A) Mt = true then kf_tell A Mt vs else vs) = kf_tell A Mt vs
      rw [if_pos]
      unfold kf_lall
      rw [List.all_eq_true]
      intro l hm
      obtain ⟨a, b, hab, hb, e1, e2⟩ := hl l hm
      rw [e1, e2, nI_clamp (n := a) (by omega), nI_clamp (n := b) (by omega)]
      exact h l hm a b e1 e2 hab hb
    · show (if kf_lall (aLink A) Mt = true then kf_tell A Mt vs else vs) = vs
      rw [if_neg]
      intro hall
      unfold kf_lall at hall
      rw [List.all_eq_true] at hall
      have := hall l hm
      rw [e1, e2, nI_clamp (n := a) (by omega), nI_clamp (n := b) (by omega), hf] at this
      cases this
  | succ m ih =>
    intro s Mt vs hs
    have lt2 : ∀ a s' : Nat, a < s' → ∀ r, qkU Mt s' r a = Mt a := fun a s' h r => qkU_n (by omega)
    refine ⟨fun h => ?_, fun ⟨l, hm, a, b, e1, e2, hab, hb, hf⟩ => ?_⟩
    · show (rss s).foldl (fun ws r => kf_enum A rss m (s + 1) (qkU Mt s r) ws) vs = (rss s).foldl (fun ws r => if kf_linkedAt (aLink A) (qkU Mt s r) s = true then kf_step A rss m (s + 1) (qkU Mt s r) ws else ws) vs
      refine foldl_cg (fun ws r _ => ?_)
      by_cases c : kf_linkedAt (aLink A) (qkU Mt s r) s = true
      · rw [if_pos c]
        refine (ih (s := s + 1) (by omega)).1 (fun l hm a b e1 e2 hab hb => ?_)
        by_cases e : b = s
        · unfold kf_linkedAt at c
          rw [List.all_eq_true] at c
          have := c l hm
          rw [e2, e, decide_eq_true rfl, Bool.not_true, Bool.false_or, e1, nI_clamp (n := a) (by omega)] at this
          rw [e]
          exact this
        · rw [lt2 a s (by omega), lt2 b s (by omega)]
          exact h l hm a b e1 e2 hab (by omega)
      · rw [if_neg c]
        refine (ih (s := s + 1) (by omega)).2 ?_
        unfold kf_linkedAt at c
        rw [Bool.not_eq_true, List.all_eq_false] at c
        obtain ⟨l, hm, hc⟩ := c
        obtain ⟨a, b, hab, hb, e1, e2⟩ := hl l hm
        rw [Bool.not_eq_true, Bool.or_eq_false_iff] at hc
        have hb' : b = s := by
          have := hc.1
          rw [e2] at this
          have h2 : nI b = nI s := by simpa using this
          exact (nI_eq (by omega) (by omega)).mp h2
        refine ⟨l, hm, a, b, e1, e2, hab, by omega, ?_⟩
        have := hc.2
        rw [e1, nI_clamp (n := a) (by omega)] at this
        rw [hb']
        exact this
    · show (rss s).foldl (fun ws r => kf_enum A rss m (s + 1) (qkU Mt s r) ws) vs = vs
      refine foldl_same (fun ws r _ => ?_)
      refine (ih (s := s + 1) (by omega)).2 ⟨l, hm, a, b, e1, e2, hab, by omega, ?_⟩
      rw [lt2 a s (by omega), lt2 b s (by omega)]
      exact hf
theorem enum_walk {A : qkA} {rss : Nat → List qkRow} {n : Nat} (hn : n ≤ 3) (hl : ∀ l ∈ aLink A, ∃ a b, a < b ∧ b < n ∧ l.1 = nI a ∧ l.2.2.1 = nI b) : kf_enum A rss n 0 (fun _ => (0, fun _ => 0)) [] = kf_walk A rss n := (enum_step hn hl (Nat.zero_add n)).1 (fun _ _ _ _ _ _ _ h => absurd h (by omega))
theorem enum_none {A : qkA} {rss : Nat → List qkRow} {t : Nat} (ht : rss t = []) : ∀ {m s : Nat} {Mt : Nat → qkRow} {vs : List qkV}, s ≤ t → t < s + m → kf_enum A rss m s Mt vs = vs := by
  intro m
  induction m with
  | zero => intro s Mt vs h1 h2; omega
  | succ m ih =>
    intro s Mt vs h1 h2
    show (rss s).foldl (fun ws r => kf_enum A rss m (s + 1) (qkU Mt s r) ws) vs = vs
    by_cases e : s = t
    · rw [e, ht]
      rfl
    · exact foldl_same (fun ws r _ => ih (by omega) (by omega))
/-! the next choice -/
def f_carry (N : Nat → Nat) : Nat → (Nat → Nat) → Bool × (Nat → Nat)
  | 0, a => (decide (a 0 + 1 < N 0), qkU a 0 (a 0 + 1))
  | s + 1, a => if a (s + 1) + 1 = N (s + 1) then f_carry N s (qkU a (s + 1) 0) else (decide (a 0 < N 0), qkU a (s + 1) (a (s + 1) + 1))
theorem km_goesOn {S : qm_S} {n : Nat} {N a : Nat → Nat} {K : Int32 → qm_S → Prop} (hn1 : 1 ≤ n) (hn3 : n ≤ 3) (h22 : S.1 22 = nI n) (h65 : ∀ s, s < n → S.2 65 s = nI (N s) ∧ N s ≤ 12) (h67 : ∀ s, s < n → S.2 67 s = nI (a s)) (ha : ∀ s, s < n → a s < N s)
    (hk : ∀ S' : qm_S, S'.1 = S.1 → (∀ k, k ≠ 67 → S'.2 k = S.2 k) → (∀ s, s < n → S'.2 67 s = nI ((f_carry N (n - 1) a).2 s)) → K (b2 (f_carry N (n - 1) a).1) S') : T_X8_goesOn S K := by
  unfold T_X8_goesOn
  rw [h22, s_1 hn1, nI_clamp (n := n - 1) (by omega)]
  refine ⟨pk_in (n - 1) 3 (by omega), ?_⟩
  intro X hX
  have key : ∀ (s : Nat) (a : Nat → Nat) (st : qm_S), s < n → (∀ j, j < n → a j < N j) → st.1 = S.1 → (∀ k, k ≠ 67 → st.2 k = S.2 k) → (∀ j, j < n → st.2 67 j = nI (qkU a s (a s + 1) j)) → (∀ S' : qm_S, S'.1 = S.1 → (∀ k, k ≠ 67 → S'.2 k = S.2 k) → (∀ j, j < n → S'.2 67 j = nI ((f_carry N s a).2 j)) → K (b2 (f_carry N s a).1) S') → X (nI s) st := by
    intro s
    induction s with
    | zero =>
      intro a st hs ha g1 g2 g3 hk
      have e0 := g3 0 (by omega)
      rw [qkU_s] at e0
      have hN := h65 0 (by omega)
      have hfin := hk st g1 g2 g3
      refine hX _ _ ?_
      intro J hJ
      have : J := by
        refine hJ ?_
        have c0 : (0 : Int32).toNatClampNeg = 0 := rfl
        rw [c0, g2 65 (by decide), hN.1, e0]
        have hb : (f_carry N 0 a).1 = decide (a 0 + 1 < N 0) := rfl
        rw [hb] at hfin
        have := ha 0 (by omega)
        refine pk_le (N 0) (a 0 + 1) (fun w => ?_) (fun w => ?_)
        · rw [b2_f (decide_eq_false (by omega))] at hfin
          exact hfin
        · rw [b2_t (decide_eq_true (by omega))] at hfin
          exact hfin
      exact ⟨fun _ => this, fun z => absurd (Int32.le_refl 0) z⟩
    | succ s ih =>
      intro a st hs ha g1 g2 g3 hk
      have es := g3 (s + 1) hs
      rw [qkU_s] at es
      have e0 := g3 0 (by omega)
      rw [qkU_n (show (0 : Nat) ≠ s + 1 by omega)] at e0
      have hN := h65 (s + 1) hs
      have hN0 := h65 0 (by omega)
      have has := ha (s + 1) hs
      have hcar : f_carry N (s + 1) a = if a (s + 1) + 1 = N (s + 1) then f_carry N s (qkU a (s + 1) 0) else (decide (a 0 < N 0), qkU a (s + 1) (a (s + 1) + 1)) := rfl
      rw [hcar] at hk
      refine hX _ _ ?_
      intro J hJ
      refine pk_le (s + 1) 0 (fun z => absurd z (by omega)) (fun _ => ?_)
      rw [nI_clamp (n := s + 1) (by omega), es, g2 65 (by decide), hN.1]
      refine ⟨pk_in (s + 1) 3 (by omega), pk_in (s + 1) 3 (by omega), pj_eq (a (s + 1) + 1) (N (s + 1)) (fun q => ?_) (fun q => ?_)⟩
      · rw [if_neg q] at hk
        refine hJ ?_
        have c0 : (0 : Int32).toNatClampNeg = 0 := rfl
        rw [c0, g2 65 (by decide), hN0.1, e0]
        have hfin := hk st g1 g2 g3
        dsimp only at hfin
        have := ha 0 (by omega)
        rw [b2_t (decide_eq_true this)] at hfin
        exact pk_le (N 0) (a 0) (fun w => absurd w (by omega)) (fun _ => hfin)
      · rw [if_pos q] at hk
        have em : nI (s + 1) + (-1 : Int32) = nI s := pk_m1 s
        rw [em, nI_clamp (n := s) (by omega)]
        refine ⟨pk_in s 3 (by omega), ih (qkU a (s + 1) 0) _ (by omega) (fun j hj => ?_) g1 (fun k hk' => ?_) (fun j hj => ?_) hk⟩
        · by_cases e : j = s + 1
          · rw [e, qkU_s]
            omega
          · rw [qkU_n e]
            exact ha j hj
        · show qm_uA (qm_uA st.2 67 _) 67 _ k = _
          rw [uA_n hk', uA_n hk']
          exact g2 k hk'
        · show upd (upd (st.2 67) (s + 1) 0) s (upd (st.2 67) (s + 1) 0 s + 1) j = _
          have en : upd (st.2 67) (s + 1) 0 s = nI (a s) := by
            rw [upd_n (show s ≠ s + 1 by omega), g3 s (by omega), qkU_n (show s ≠ s + 1 by omega)]
          rw [en, nI_1]
          by_cases e : j = s
          · subst e
            rw [upd_s, qkU_s, qkU_n (show j ≠ j + 1 by omega)]
          · rw [upd_n e, qkU_n e]
            by_cases e' : j = s + 1
            · subst e'
              rw [upd_s, qkU_s]
              rfl
            · rw [upd_n e', qkU_n e', g3 j hj, qkU_n e']
  refine key (n - 1) a _ (by omega) ha rfl (fun k hk' => un2 hk') (fun j hj => ?_) hk
  show upd (S.2 67) (n - 1) (S.2 67 (n - 1) + 1) j = _
  rw [h67 (n - 1) (by omega), nI_1]
  by_cases e : j = n - 1
  · subst e
    rw [upd_s, qkU_s]
  · rw [upd_n e, qkU_n e]
    exact h67 j hj
def kf_mof (rss : Nat → List qkRow) (a : Nat → Nat) (s : Nat) : Nat → qkRow := fun i => if i < s then ((rss i)[a i]?).getD (0, fun _ => 0) else (0, fun _ => 0)
theorem mof_s {rss : Nat → List qkRow} {a : Nat → Nat} {s k : Nat} {r : qkRow} (h : (rss s)[k]? = some r) : kf_mof rss (qkU a s k) (s + 1) = qkU (kf_mof rss a s) s r := by
  funext i
  unfold kf_mof
  by_cases e : i = s
  · subst e
    rw [qkU_s, if_pos (by omega), qkU_s, h]
    rfl
  · rw [qkU_n e, qkU_n e]
    by_cases c : i < s
    · rw [if_pos (by omega), if_pos c]
    · rw [if_neg (by omega), if_neg c]
theorem km_loop {A : qkA} {n : Nat} {rss : Nat → List qkRow} {X8 : Int32 → qm_S → Prop} {Acc : qm_S → List qkV → Prop} (hn1 : 1 ≤ n) (hn3 : n ≤ 3) (hne : ∀ s, s < n → 0 < (rss s).length)
    (hW : ∀ (S S' : qm_S) (vs : List qkV), S'.1 = S.1 → (∀ k, k ≠ 67 → S'.2 k = S.2 k) → Acc S vs → Acc S' vs) (h22 : ∀ (S : qm_S) (vs : List qkV), Acc S vs → S.1 22 = nI n) (hM : ∀ (S : qm_S) (vs : List qkV), Acc S vs → ∀ s, s < n → rM S s (rss s))
    (hproc : ∀ (S : qm_S) (a : Nat → Nat) (Mt : Nat → qkRow) (vs : List qkV), Acc S vs → cAt S n rss a Mt → (∀ S' : qm_S, Acc S' (if kf_lall (aLink A) Mt = true then kf_tell A Mt vs else vs) → S'.2 67 = S.2 67 → T_X8_goesOn S' (fun r S'' => X8 r S'')) → X8 1 S) :
    ∀ (m s : Nat) (a : Nat → Nat) (vs : List qkV), s + m = n → (∀ j, j < s → a j < (rss j).length) → (∀ j, s ≤ j → j < n → a j = 0) → (s = 0 → ∀ S, Acc S (kf_enum A rss m s (kf_mof rss a s) vs) → X8 0 S) → (∀ s', s = s' + 1 → ∀ S, Acc S (kf_enum A rss m s (kf_mof rss a s) vs) → (∀ j, j < n → S.2 67 j = nI ((f_carry (fun j => (rss j).length) s' a).2 j)) → X8 (b2 (f_carry (fun j => (rss j).length) s' a).1) S) → ∀ S, Acc S vs → (∀ j, j < n → S.2 67 j = nI (a j)) → X8 1 S := by
  intro m
  induction m with
  | zero =>
    intro s a vs hs ha1 ha2 hz hp S hA h67
    obtain rfl : s = n := by omega
    have hcat : cAt S s rss a (kf_mof rss a s) := fun j hj => ⟨hM S vs hA j hj, h67 j hj, by
      unfold kf_mof
      rw [if_pos hj, List.getElem?_eq_getElem (ha1 j hj)]
      rfl⟩
    refine hproc S a _ vs hA hcat (fun S' hA' e67 => ?_)
    have hrM := hM S' _ hA'
    refine km_goesOn (N := fun j => (rss j).length) (a := a) hn1 hn3 (h22 S' _ hA') (fun j hj => ⟨(hrM j hj).1, (hrM j hj).2.1⟩) (fun j hj => by rw [e67]; exact h67 j hj) ha1 (fun S2 g1 g2 g3 => ?_)
    exact hp (s - 1) (by omega) S2 (hW S' S2 _ g1 g2 hA') g3
  | succ m ih =>
    intro s a vs hs ha1 ha2 hz hp S hA h67
    have hsn : s < n := by omega
    have inner : ∀ (j k : Nat) (vs : List qkV), k + (j + 1) = (rss s).length → (s = 0 → ∀ S, Acc S (((rss s).drop k).foldl (fun ws r => kf_enum A rss m (s + 1) (qkU (kf_mof rss a s) s r) ws) vs) → X8 0 S) → (∀ s', s = s' + 1 → ∀ S, Acc S (((rss s).drop k).foldl (fun ws r => kf_enum A rss m (s + 1) (qkU (kf_mof rss a s) s r) ws) vs) → (∀ j, j < n → S.2 67 j = nI ((f_carry (fun j => (rss j).length) s' a).2 j)) → X8 (b2 (f_carry (fun j => (rss j).length) s' a).1) S) → ∀ S, Acc S vs → (∀ j, j < n → S.2 67 j = nI (qkU a s k j)) → X8 1 S := by
      intro j
      induction j with
      | zero =>
        intro k vs hk hz hp S hA h67
        have hg : (rss s)[k]? = some ((rss s)[k]'(by omega)) := List.getElem?_eq_getElem (by omega)
        have hdr : (rss s).drop k = [(rss s)[k]'(by omega)] := by
          rw [List.drop_eq_getElem_cons (show k < (rss s).length by omega), List.drop_of_length_le (by omega)]
        rw [hdr, List.foldl_cons, List.foldl_nil] at hz hp
        refine ih (s + 1) (qkU a s k) vs (by omega) (fun i hi => ?_) (fun i hi hi' => ?_) (fun w => absurd w (by omega)) (fun s' e S2 hA2 h2 => ?_) S hA h67
        · by_cases e : i = s
          · subst e
            rw [qkU_s]
            omega
          · rw [qkU_n e]
            exact ha1 i (by omega)
        · rw [qkU_n (show i ≠ s by omega)]
          exact ha2 i (by omega) hi'
        · obtain rfl : s' = s := by omega
          rw [mof_s hg] at hA2
          cases s' with
          | zero =>
            have hc : f_carry (fun j => (rss j).length) 0 (qkU a 0 k) = (decide (qkU a 0 k 0 + 1 < (rss 0).length), qkU (qkU a 0 k) 0 (qkU a 0 k 0 + 1)) := rfl
            rw [hc, qkU_s, b2_f (decide_eq_false (by omega))]
            exact hz rfl S2 hA2
          | succ t =>
            have hc : f_carry (fun j => (rss j).length) (t + 1) (qkU a (t + 1) k) = if qkU a (t + 1) k (t + 1) + 1 = (rss (t + 1)).length then f_carry (fun j => (rss j).length) t (qkU (qkU a (t + 1) k) (t + 1) 0) else (decide (qkU a (t + 1) k 0 < (rss 0).length), qkU (qkU a (t + 1) k) (t + 1) (qkU a (t + 1) k (t + 1) + 1)) := rfl
            have hback : qkU (qkU a (t + 1) k) (t + 1) 0 = a := by
              funext i
              by_cases e : i = t + 1
              · rw [e, qkU_s]
                exact (ha2 (t + 1) (Nat.le_refl _) hsn).symm
              · rw [qkU_n e, qkU_n e]
            rw [hc, if_pos (by rw [qkU_s]; omega), hback] at h2 ⊢
            exact hp t rfl S2 hA2 h2
      | succ j ihj =>
        intro k vs hk hz hp S hA h67
        have hg : (rss s)[k]? = some ((rss s)[k]'(by omega)) := List.getElem?_eq_getElem (by omega)
        have hdr : (rss s).drop k = (rss s)[k]'(by omega) :: (rss s).drop (k + 1) := List.drop_eq_getElem_cons (by omega)
        rw [hdr] at hz hp
        refine ih (s + 1) (qkU a s k) vs (by omega) (fun i hi => ?_) (fun i hi hi' => ?_) (fun w => absurd w (by omega)) (fun s' e S2 hA2 h2 => ?_) S hA h67
        · by_cases e : i = s
          · subst e
            rw [qkU_s]
            omega
          · rw [qkU_n e]
            exact ha1 i (by omega)
        · rw [qkU_n (show i ≠ s by omega)]
          exact ha2 i (by omega) hi'
        · obtain rfl : s' = s := by omega
          rw [mof_s hg] at hA2
          have next : ∀ S3, Acc S3 (kf_enum A rss m (s' + 1) (qkU (kf_mof rss a s') s' ((rss s')[k]'(by omega))) vs) → (∀ j, j < n → S3.2 67 j = nI (qkU a s' (k + 1) j)) → X8 1 S3 := ihj (k + 1) _ (by omega) hz hp
          have hup : qkU (qkU a s' k) s' (k + 1) = qkU a s' (k + 1) := by
            funext i
            by_cases e : i = s'
            · rw [e, qkU_s, qkU_s]
            · rw [qkU_n e, qkU_n e, qkU_n e]
          cases s' with
          | zero =>
            have hc : f_carry (fun j => (rss j).length) 0 (qkU a 0 k) = (decide (qkU a 0 k 0 + 1 < (rss 0).length), qkU (qkU a 0 k) 0 (qkU a 0 k 0 + 1)) := rfl
            rw [hc, qkU_s, hup] at h2
            rw [hc, qkU_s, b2_t (decide_eq_true (by omega))]
            exact next S2 hA2 h2
          | succ t =>
            have hc : f_carry (fun j => (rss j).length) (t + 1) (qkU a (t + 1) k) = if qkU a (t + 1) k (t + 1) + 1 = (rss (t + 1)).length then f_carry (fun j => (rss j).length) t (qkU (qkU a (t + 1) k) (t + 1) 0) else (decide (qkU a (t + 1) k 0 < (rss 0).length), qkU (qkU a (t + 1) k) (t + 1) (qkU a (t + 1) k (t + 1) + 1)) := rfl
            rw [hc, if_neg (by rw [qkU_s]; omega), qkU_s, hup] at h2
            rw [hc, if_neg (by rw [qkU_s]; omega)]
            dsimp only
            rw [qkU_n (show (0 : Nat) ≠ t + 1 by omega), b2_t (decide_eq_true (ha1 0 (by omega)))]
            exact next S2 hA2 h2
    have hlen := hne s hsn
    have h0 : qkU a s 0 = a := by
      funext i
      by_cases e : i = s
      · rw [e, qkU_s]
        exact (ha2 s (Nat.le_refl _) hsn).symm
      · rw [qkU_n e]
    refine inner ((rss s).length - 1) 0 vs (by omega) ?_ ?_ S hA (by rw [h0]; exact h67)
    · rw [List.drop_zero]
      exact hz
    · rw [List.drop_zero]
      exact hp
