/-! SP 14: a seat is bound; a seat is taken -/
set_option maxRecDepth 100000
def kf_cost (src nk : Nat) : Int32 := nI ((nk + 3) / 4) * kf_fee (src / 2) + nI nk * kf_freight (src / 2)
def kf_scost (A : qkA) (src ns : Nat) : Int32 := kf_fee (src / 2) + kf_freight (src / 2) * kf_guess (aSr A src 5) ns
/-- the end of a batch of keys -/
def kf_bto (nk k : Nat) : Nat := if (k + 1) * 4 < nk then (k + 1) * 4 else nk
def kf_bship (src : Nat) (sent : List qkC) (ks : List Int32) (col b d : Int32) (k : Nat) (A : qkA) (f sv : Nat → Int32) (rows : List qkRow) : Nat × qkA × (Nat → Int32) × (Nat → Int32) × List qkRow := kf_ship A src sent rows sv f b d col ((ks.drop (k * 4)).take (kf_bto ks.length k - k * 4))
def kf_bl (src : Nat) (sent : List qkC) (ks : List Int32) (col b d most : Int32) : Nat → Nat → qkA → (Nat → Int32) → (Nat → Int32) → List qkRow → Nat × qkA × (Nat → Int32) × (Nat → Int32) × List qkRow
  | 0, _, A, f, sv, rows => (1, A, f, sv, kf_order rows)
  | n + 1, k, A, f, sv, rows =>
    if (kf_bship src sent ks col b d k A f sv rows).1 = 0 then
      (if n = 0 ∨ (kf_bship src sent ks col b d k A f sv rows).2.2.2.1 9 < most then
        kf_bl src sent ks col b d most n (k + 1) (kf_bship src sent ks col b d k A f sv rows).2.1 (kf_bship src sent ks col b d k A f sv rows).2.2.1 (kf_bship src sent ks col b d k A f sv rows).2.2.2.1 (kf_bship src sent ks col b d k A f sv rows).2.2.2.2
      else (0, (kf_bship src sent ks col b d k A f sv rows).2.1, (kf_bship src sent ks col b d k A f sv rows).2.2.1, upd (kf_bship src sent ks col b d k A f sv rows).2.2.2.1 7 2, (kf_bship src sent ks col b d k A f sv rows).2.2.2.2))
    else (1, (kf_bship src sent ks col b d k A f sv rows).2.1, (kf_bship src sent ks col b d k A f sv rows).2.2.1, upd (kf_bship src sent ks col b d k A f sv rows).2.2.2.1 6 1, kf_order (kf_bship src sent ks col b d k A f sv rows).2.2.2.2)
/-- 1: bound; 0: not -/
def kf_bind (A : qkA) (src osrc : Nat) (sent : List qkC) (sv osv : Nat → Int32) (orows : List qkRow) (l : qkC) (b d : Int32) (f : Nat → Int32) : Nat × qkA × (Nat → Int32) × (Nat → Int32) × List qkRow :=
  if kf_can (src / 2) 0 (kf_colOf l (sv 0)) = false then (0, A, f, sv, []) else
  if ¬ aFb A osrc (src / 2) = 0 then (0, A, f, sv, []) else
  if ¬ kf_cost src (kf_keys (kf_colOf l (osv 0)) orows).length < kf_scost A src sent.length then (0, A, f, sv, []) else
  kf_bl src sent (kf_keys (kf_colOf l (osv 0)) orows) (kf_colOf l (sv 0)) b d (kf_scost A src sent.length) (((kf_keys (kf_colOf l (osv 0)) orows).length + 3) / 4) 0 A f (upd (upd sv 7 1) 8 (aQ A 14)) []
section
variable {g : qh_G} {L : Nat → Nat} {J h : qc_H} {A : qkA} {c : Nat}
theorem kt_bind {se so src osrc ol sl rl ool osl orl an arl atl lk : Nat} {b d : Int32} {sent : List qkC} {orows : List qkRow} {sv osv f : Nat → Int32} {l : qkC} {K : Int32 → qc_H → Prop} (R : qkRep g L J h A) (hla : aLa A = an) (han : h an = some (qkAn arl atl f)) (haF : qkF L an) (hsrc : src < 6)
    (hse : h se = some (qkSt L src ol sl rl sv)) (hsF : qkF L se) (hsl : qkR (isCond J) J sl sent) (hok : ∀ cd ∈ sent, qkOk cd) (hrl : h rl = some (.inr [])) (hrF : qkF L rl) (hrJ : J rl = none) (hnr : (aRow A src).length ≤ 12) (hcap : ∃ m, m ≤ 12 ∧ aLn A (src / 2) 4 = nI m)
    (hso : h so = some (qkSt L osrc ool osl orl osv)) (hosrc : osrc < 6) (hor : qkR (isRow g J) h orl orows) (horF : qkF L orl) (hon : orows.length ≤ 12) (hlk : isLink J lk l) (hl1 : ∃ q, q < 4 ∧ l.2.1 = nI q) (hl2 : ∃ q, q < 4 ∧ l.2.2.2 = nI q) (hc : 2850 ≤ c)
    (hk : ∀ J' h', qkJw h J J' → qkRep g L J' h' (kf_bind A src osrc sent sv osv orows l b d f).2.1 → h' an = some (qkAn arl atl (kf_bind A src osrc sent sv osv orows l b d f).2.2.1) → h' se = some (qkSt L src ol sl rl (kf_bind A src osrc sent sv osv orows l b d f).2.2.2.1) → qkR (isRow g J') h' rl (kf_bind A src osrc sent sv osv orows l b d f).2.2.2.2 → J' rl = none → qkTm A (kf_bind A src osrc sent sv osv orows l b d f).2.1 → qkFx L (fun a => a = an ∨ a = se ∨ a = rl) h h' → K (nI (kf_bind A src osrc sent sv osv orows l b d f).1) h') :
    T_X1_bind g (L 0) se so lk b d h c K := by
  unfold T_X1_bind
  have hsr : src / 2 < 3 := by omega
  have haJ := R.mu han (Or.inl rfl)
  have hsJ := R.mu hse (Or.inr rfl)
  have hcolq : ∀ u, ∃ q, q < 4 ∧ kf_colOf l u = nI q := by
    intro u
    unfold kf_colOf
    split
    · exact hl1
    · exact hl2
  have hane : an ≠ se := by
    intro z
    rw [z, hse] at han
    cases han
  have hanr : an ≠ rl := by
    intro z
    rw [z, hrl] at han
    cases han
  have hser : se ≠ rl := by
    intro z
    rw [z, hrl] at hse
    cases hse
  -- nothing is done
  have nope : (kf_bind A src osrc sent sv osv orows l b d f) = (0, A, f, sv, []) → K 0 h := by
    intro e
    rw [e] at hk
    exact hk J h qkJw.rf R han hse ⟨[], hrl, qkL.nil, Nat.zero_le _⟩ hrJ qkTm.rf qkFx.rf
  refine ⟨_, _, hse, rfl, _, _, R.src hsrc, rfl, _, _, R.line hsr, rfl, _, sv 0, hse, rfl, ⟨_, R.jh _ _ hlk⟩, kt_columnOf R.jh hlk (kt_can R hsr ⟨fun z => nope ?_, fun z => ?_⟩)⟩
  · unfold kf_bind
    rw [if_pos (b2_eq0.mp z)]
  have hcan := b2_n0.mp z
  refine ⟨_, _, R.x, rfl, _, _, hso, rfl, _, nI osrc, R.src hosrc, rfl, _, _, L (4 + osrc), R.fbs, vp_in_nI hosrc (by decide), by rw [nI_clamp (by omega)], _, _, hse, rfl, _, nI src, R.src hsrc, rfl, _, _, R.fb hosrc, ?_, ?_⟩
  · rw [show nI src / 2 = nI (src / 2) from pk_div (by omega) (by decide) (by decide)]
    exact vp_in_nI hsr (by decide)
  rw [show nI src / 2 = nI (src / 2) from pk_div (by omega) (by decide) (by decide), nI_clamp (by omega)]
  refine ⟨fun hfb => ?_, fun hfb => nope ?_⟩
  rotate_left
  · unfold kf_bind
    rw [if_neg (by rw [hcan]; decide), if_pos hfb]
  refine ⟨_, _, hso, rfl, _, osv 0, hso, rfl, ⟨_, R.jh _ _ hlk⟩, kt_columnOf R.jh hlk (ek 380 (by omega) (kt_keysOf R hor horF hon (hcolq _) (Nat.le_refl _) fun J1 h1 kl k1 R1 hkl hklF hklJ hks F1 => ?_))⟩
  have hkn : (kf_keys (kf_colOf l (osv 0)) orows).length ≤ 12 := by
    have := kf_keys_len (col := kf_colOf l (osv 0)) (rows := orows) (b := [])
    unfold kf_keys
    simp only [List.length_nil] at this
    omega
  unfold kf_bind at hk
  rw [if_neg (by rw [hcan]; decide), if_neg (by rw [hfb]; decide)] at hk
  generalize kf_keys (kf_colOf l (osv 0)) orows = ks at hks hkn hk
  obtain ⟨col, hcol⟩ : ∃ col, kf_colOf l (sv 0) = col := ⟨_, rfl⟩
  have hcq := hcolq (sv 0)
  rw [hcol] at hk hcq ⊢
  have ha1 := F1.at haF han
  have hs1 := F1.at hsF hse
  have hr1 := F1.at hrF hrl
  have hsl1 : qkR (isCond J1) J1 sl sent := hsl.mono (fun e q => k1.1 _ _ q) (isCond.mono k1.1)
  have hrJ1 := (k1.w (h := h)).at R1.jh (by rw [hrl]; intro z; cases z) hrJ hr1
  refine rl_size hks ⟨⟨_, hs1⟩, kt_scanCost R1 hsrc hs1 hsl1 (kt_fee R1 hsr (rl_size hks (kt_freight R1 hsr ?_)))⟩
  have eb : ((nI ks.length + 4) - 1) / 4 = nI ((ks.length + 3) / 4) := by
    rw [show (4 : Int32) = nI 4 from rfl, nI_add, show ks.length + 4 = (ks.length + 3) + 1 from rfl, nI_pred]
    exact pk_div (by omega) (by decide) (by decide)
  rw [eb]
  have hcost : nI ((ks.length + 3) / 4) * kf_fee (src / 2) + nI ks.length * kf_freight (src / 2) = kf_cost src ks.length := rfl
  rw [hcost]
  have hscost : kf_fee (src / 2) + kf_freight (src / 2) * kf_guess (aSr A src 5) sent.length = kf_scost A src sent.length := rfl
  rw [hscost]
  refine ⟨fun hlt => ?_, fun hlt => ?_⟩
  rotate_left
  · rw [if_pos hlt] at hk
    exact hk J1 h1 k1.w R1 ha1 hs1 ⟨[], hr1, qkL.nil, Nat.zero_le _⟩ hrJ1 qkTm.rf F1.x
  rw [if_neg (fun q => q hlt)] at hk
  generalize kf_scost A src sent.length = most at hk ⊢
  -- the keys stay
  obtain ⟨xk, xk1, xk2, xk3⟩ := hks
  have R2 := R1.freeze hklF (R.freshG hkl) xk1
  have k2 : qkJw h J (qc_up J1 kl (.inr xk)) := (k1.w (h := h)).tr (h' := h) (qkJw.up hklJ hkl) (fun _ q => q)
  have k2' : qkJ J1 (qc_up J1 kl (.inr xk)) := qkJ.up (Or.inl hklJ)
  have hkeys : qkR (isInt (qc_up J1 kl (.inr xk))) (qc_up J1 kl (.inr xk)) kl ks := ⟨xk, qc_up_s, xk2.mono (isInt.mono k2'), xk3⟩
  have hrkl : rl ≠ kl := by
    intro q
    rw [q, hkl] at hrl
    cases hrl
  have hrJ2 : (qc_up J1 kl (.inr xk)) rl = none := by rw [qc_up_n hrkl]; exact hrJ1
  have hsl2 : qkR (isCond (qc_up J1 kl (.inr xk))) (qc_up J1 kl (.inr xk)) sl sent := hsl1.mono (fun e q => k2' _ _ q) (isCond.mono k2')
  generalize qc_up J1 kl (.inr xk) = J2 at R2 k2 hkeys hrJ2 hsl2
  clear k2' xk1 xk2
  refine ⟨_, hs1, by simp, ⟨qkO L (aQ A) (aLa A), aQ A 14, ?_, rfl, _, qc_up_s, by simp, ?_⟩⟩
  · rw [qc_up_n (fun z => hsF 0 (by omega) z.symm)]
    exact R1.x
  simp only [qc_up_up]
  rw [show qc_up h1 se (Sum.inl (Sum.inr (13, ([Value.int (sv 0), Value.ref (L (16 + src)), Value.ref ol, Value.ref sl, Value.ref rl, Value.int (sv 5), Value.int (sv 6), Value.int (sv 7), Value.int (sv 8), Value.int (sv 9), Value.ref (L 0)].set 7 (Value.int 1)).set 8 (Value.int (aQ A 14))))) = qc_up h1 se (qkSt L src ol sl rl (upd (upd sv 7 1) 8 (aQ A 14))) from rfl]
  have R3 := R2.other (e := qkSt L src ol sl rl (upd (upd sv 7 1) 8 (aQ A 14))) hsF (R2.mu hs1 (Or.inr rfl))
  have ha3 : (qc_up h1 se (qkSt L src ol sl rl (upd (upd sv 7 1) 8 (aQ A 14)))) an = some (qkAn arl atl f) := by rw [qc_up_n hane]; exact ha1
  have hs3 : (qc_up h1 se (qkSt L src ol sl rl (upd (upd sv 7 1) 8 (aQ A 14)))) se = some (qkSt L src ol sl rl (upd (upd sv 7 1) 8 (aQ A 14))) := qc_up_s
  have hr3 : (qc_up h1 se (qkSt L src ol sl rl (upd (upd sv 7 1) 8 (aQ A 14)))) rl = some (.inr []) := by rw [qc_up_n hser.symm]; exact hr1
  have F3 : qkFx L (fun a => a = an ∨ a = se ∨ a = rl) h (qc_up h1 se (qkSt L src ol sl rl (upd (upd sv 7 1) 8 (aQ A 14)))) := F1.x.tr (qkFx.up (Or.inr (Or.inl rfl)))
  generalize qc_up h1 se (qkSt L src ol sl rl (upd (upd sv 7 1) 8 (aQ A 14))) = h3 at R3 ha3 hs3 hr3 F3 ⊢
  intro X hX
  have key : ∀ n k h4 c4 A4 f4 sv4 rows4, k + n = (ks.length + 3) / 4 → rows4.length ≤ 12 * k → 808 * n ≤ c4 → qkTm A A4 → qkRep g L J2 h4 A4 → h4 an = some (qkAn arl atl f4) → h4 se = some (qkSt L src ol sl rl sv4) → qkR (isRow g J2) h4 rl rows4 → qkFx L (fun a => a = an ∨ a = se ∨ a = rl) h h4 → kf_bl src sent ks col b d most n k A4 f4 sv4 rows4 = kf_bl src sent ks col b d most ((ks.length + 3) / 4) 0 A f (upd (upd sv 7 1) 8 (aQ A 14)) [] → X (nI k) h4 c4 := by
    intro n
    induction n with
    | zero =>
      intro k h4 c4 A4 f4 sv4 rows4 hkn hrl4 hc4 T4 R4 ha4 hs4 hr4 F4 he
      refine hX _ _ _ ⟨fun _ => ⟨_, _, hs4, rfl, kt_order R4 hr4 hrF hrJ2 fun h5 R5 hr5 F5 => ?_⟩, fun z => absurd (nI_le (by omega) (by omega)) z⟩
      rw [← he] at hk
      exact hk J2 h5 k2 R5 (F5.at haF hanr ha4) (F5.at hsF hser hs4) hr5 hrJ2 T4 (F4.tr (F5.le (fun a z _ => Or.inr (Or.inr z))))
    | succ n ih =>
      intro k h4 c4 A4 f4 sv4 rows4 hkn hrl4 hc4 T4 R4 ha4 hs4 hr4 F4 he
      refine hX _ _ _ ⟨fun z => absurd z (nI_ge (by omega) (by omega)), fun _ => rl_size (P := isInt J2) (hkeys.mono (fun e q => R4.jh _ _ q) (fun _ _ q => q)) ?_⟩
      rintro u rfl
      have ei : nI k * 4 = nI (k * 4) := pk_mul k 4
      have ej : (if (nI k + 1) * 4 < nI ks.length then (nI k + 1) * 4 else nI ks.length) = nI (kf_bto ks.length k) := by
        rw [nI_1, show nI (k + 1) * 4 = nI ((k + 1) * 4) from pk_mul (k + 1) 4]
        unfold kf_bto
        by_cases q : (k + 1) * 4 < ks.length
        · rw [if_pos q, if_pos (nI_lt q (by omega))]
        · rw [if_neg q, if_neg (fun q2 => q ((nI_ltI (by omega) (by omega)).mp q2))]
      rw [ei, ej]
      have hb1 : k * 4 ≤ kf_bto ks.length k := by unfold kf_bto; split <;> omega
      have hb2 : kf_bto ks.length k ≤ ks.length := by unfold kf_bto; split <;> omega
      obtain ⟨T4a, T4b, T4c, T4d, T4e, T4f⟩ := T4
      have T4 : qkTm A A4 := ⟨T4a, T4b, T4c, T4d, T4e, T4f⟩
      refine ⟨⟨_, R4.x⟩, ek 808 (by omega) (kt_ship (q0 := 65) R4 (T4f.2.2.2.2.2.2.1.trans hla) ha4 haF (R4.mu ha4 (Or.inl rfl)) hsrc hs4 hsF (R4.mu hs4 (Or.inr rfl)) hsl2 hok hr4 hrF hrJ2 (by omega) (by omega) (by rw [T4e]; exact hnr) (by obtain ⟨m, hm, e⟩ := hcap; exact ⟨m, hm, (T4b _ 4 (by decide) (by decide) (by decide)).trans e⟩) (Or.inl hcq) (fun _ => ⟨kl, rfl, hkeys⟩) hb1 hb2 (by omega) (by omega) fun h5 R5 ha5 hs5 hr5 F5 => ?_)⟩
      have T5 : qkTm A (kf_bship src sent ks col b d k A4 f4 sv4 rows4).2.1 := T4.tr (qkTm.req 3)
      have hl5 : (kf_bship src sent ks col b d k A4 f4 sv4 rows4).2.2.2.2.length ≤ rows4.length + 12 := by
        unfold kf_bship kf_ship
        dsimp only
        split
        · show (rows4 ++ _).length ≤ _
          rw [List.length_append, List.length_take]
          have : (kf_sel A4 src sent col ((ks.drop (k * 4)).take (kf_bto ks.length k - k * 4))).length ≤ 12 := by
            unfold kf_sel
            have := List.length_filter_le (fun r => kf_is col ((ks.drop (k * 4)).take (kf_bto ks.length k - k * 4)) r && kf_all sent r) (aRow A4 src)
            rw [T4e] at this
            rw [T4e]
            omega
          omega
        · show rows4.length ≤ _
          omega
      rw [kf_bl] at he
      have eship : kf_ship A4 src sent rows4 sv4 f4 b d col ((ks.drop (k * 4)).take (kf_bto ks.length k - k * 4)) = kf_bship src sent ks col b d k A4 f4 sv4 rows4 := rfl
      rw [eship] at R5 ha5 hs5 hr5 ⊢
      generalize kf_bship src sent ks col b d k A4 f4 sv4 rows4 = sh at R5 ha5 hs5 hr5 T5 hl5 he ⊢
      obtain ⟨o, A5, f5, sv5, rows5⟩ := sh
      dsimp only at R5 ha5 hs5 hr5 T5 hl5 he ⊢
      have F45 := F4.tr F5
      refine ⟨fun ho => ⟨fun z => ?_, fun z => ⟨_, sv5 9, hs5, rfl, fun z2 => ?_, fun z2 => ?_⟩⟩, fun ho => ⟨rfl, fun q => ?_⟩⟩
      · have hn0 : n = 0 := by
          have hge : 1 ≤ (ks.length + 3) / 4 := by omega
          rw [show (1 : Int32) = nI 1 from rfl, pk_sub hge] at z
          have := (nI_leI (by omega) (by omega)).mp z
          omega
        rw [if_pos ho, if_pos (Or.inl hn0)] at he
        rw [nI_1]
        exact ih (k + 1) h5 _ A5 f5 sv5 rows5 (by omega) (by omega) (by omega) T5 R5 ha5 hs5 hr5 F45 he
      · rw [if_pos ho, if_pos (Or.inr z2)] at he
        rw [nI_1]
        exact ih (k + 1) h5 _ A5 f5 sv5 rows5 (by omega) (by omega) (by omega) T5 R5 ha5 hs5 hr5 F45 he
      · have hn0 : ¬ n = 0 := by
          intro e
          apply z
          have hge : 1 ≤ (ks.length + 3) / 4 := by omega
          rw [show (1 : Int32) = nI 1 from rfl, pk_sub hge]
          exact nI_le (by omega) (by omega)
        rw [if_pos ho, if_neg (by rintro (q | q); exact hn0 q; exact z2 q)] at he
        rw [← he] at hk
        refine ⟨_, hs5, by simp, ?_⟩
        exact hk J2 _ k2 (R5.other (e := qkSt L src ol sl rl (upd sv5 7 2)) hsF (R5.mu hs5 (Or.inr rfl))) (by rw [qc_up_n hane]; exact ha5) qc_up_s (hr5.mono (fun e q => by rw [qc_up_n hser.symm]; exact q) (fun _ _ q => q)) hrJ2 T5 (F45.tr (qkFx.up (Or.inr (Or.inl rfl))))
      · rw [if_neg ho] at he
        rw [← he] at hk
        refine ⟨_, hs5, by simp, ?_⟩
        have R6 := R5.other (e := qkSt L src ol sl rl (upd sv5 6 1)) hsF (R5.mu hs5 (Or.inr rfl))
        have hs6 : (qc_up h5 se (qkSt L src ol sl rl (upd sv5 6 1))) se = some (qkSt L src ol sl rl (upd sv5 6 1)) := qc_up_s
        have hr6 : qkR (isRow g J2) (qc_up h5 se (qkSt L src ol sl rl (upd sv5 6 1))) rl rows5 := hr5.mono (fun e q => by rw [qc_up_n hser.symm]; exact q) (fun _ _ q => q)
        have ha6 : (qc_up h5 se (qkSt L src ol sl rl (upd sv5 6 1))) an = some (qkAn arl atl f5) := by rw [qc_up_n hane]; exact ha5
        refine ⟨_, _, hs6, rfl, kt_order R6 hr6 hrF hrJ2 fun h7 R7 hr7 F7 => ?_⟩
        exact hk J2 h7 k2 R7 (F7.at haF hanr ha6) (F7.at hsF hser hs6) hr7 hrJ2 T5 ((F45.tr (qkFx.up (Or.inr (Or.inl rfl)))).tr (F7.le (fun a z _ => Or.inr (Or.inr z))))
  exact key ((ks.length + 3) / 4) 0 h3 _ A f _ [] (by omega) (by simp) (by omega) qkTm.rf R3 ha3 hs3 ⟨[], hr3, qkL.nil, by decide⟩ F3 rfl
end
