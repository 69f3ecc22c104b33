/-! SQ 18: a seat bound, batch by batch -/
set_option maxRecDepth 100000
theorem ship_sv {A : qkA} {src k : Nat} {sent : List qkC} {rows : List qkRow} {sv f : Nat → Int32} {b d col : Int32} {ks : List Int32} (h6 : k ≠ 6) (h8 : k ≠ 8) (h9 : k ≠ 9) : (kf_ship A src sent rows sv f b d col ks).2.2.2.1 k = sv k := by
  unfold kf_ship
  by_cases c : (kf_req (src / 2) b d 3 A f).1 = 0
  · simp only [c, if_true]
    rw [upd_n h8, upd_n h9, upd_n h6, upd_n h9]
  · simp only [c, if_false]
    rw [upd_n h9]
theorem scan_sv {A : qkA} {src k : Nat} {sent : List qkC} {sv f : Nat → Int32} {b d : Int32} (h6 : k ≠ 6) (h8 : k ≠ 8) (h9 : k ≠ 9) : (kf_scan A src sent sv f b d).2.2.1 k = sv k := by
  have hs : (kf_ship A src sent [] (upd sv 6 0) f b d (-1) []).2.2.2.1 k = sv k := (ship_sv h6 h8 h9).trans (upd_n h6)
  unfold kf_scan
  by_cases c : (kf_ship A src sent [] (upd sv 6 0) f b d (-1) []).1 = 0
  · rw [if_pos c]
    by_cases c2 : (kf_ship A src sent [] (upd sv 6 0) f b d (-1) []).2.2.2.1 6 = 0
    · rw [if_pos c2]; exact hs
    · rw [if_neg c2]; exact hs
  · rw [if_neg c]
    exact (upd_n h6).trans hs
/-- how a seat was taken, and 10 if it is open -/
def kf_code (sv : Nat → Int32) : Int32 := if sv 6 = 0 then sv 7 else sv 7 + 10
def kf_fin (src : Nat) (sent : List qkC) (b d : Int32) (r : Nat × qkA × (Nat → Int32) × (Nat → Int32) × List qkRow) : qkA × (Nat → Int32) × (Nat → Int32) × List qkRow := if r.1 = 0 then kf_scan r.2.1 src sent r.2.2.2.1 r.2.2.1 b d else r.2
theorem bsel_len {A : qkA} {src k : Nat} {sent : List qkC} {col : Int32} {ks : List Int32} {rows : List qkRow} (hc : col ≠ -1) (hks : ks.Pairwise (· < ·)) (hr : rows.length ≤ kf_nk A src col (ks.take (k * 4))) (h12 : (aRow A src).length ≤ 12) (n : Nat) : rows.length + ((kf_sel A src sent col ((ks.drop (k * 4)).take (kf_bto ks.length k - k * 4))).take n).length ≤ 12 := by
  rw [chunk]
  have h2 := sel_nk (A := A) (src := src) (sent := sent) (col := col) (ks := (ks.drop (k * 4)).take 4) hc
  have h3 := nk_app (A := A) (src := src) (col := col) (ks := ks.take (k * 4)) (ls := (ks.drop (k * 4)).take 4) (fun x hx hy => by
    rw [← List.take_append_drop (k * 4) ks, List.pairwise_append] at hks
    exact Int32.lt_irrefl (hks.2.2 x hx x (List.mem_of_mem_take hy)))
  have h4 := nk_le (A := A) (src := src) (col := col) (ks := ks.take (k * 4) ++ (ks.drop (k * 4)).take 4)
  have h5 := List.length_take_le' n (kf_sel A src sent col ((ks.drop (k * 4)).take 4))
  omega
theorem km_bl {M i src q : Nat} {b d most : Int32} {ks : List Int32} {sent : List qkC} {K : Int32 → qm_S → Prop} {X : Int32 → Int32 → qm_S → Prop} (h6 : src < 6) (hq4 : q < 4) (hi3 : i < 3) (hks : ks.Pairwise (· < ·)) (hk12 : ks.length ≤ 12) (hd : ¬ d = -1) (hM : M ≤ 2 ^ 20)
    (hX : ∀ (x8 x9 : Int32) (S10 : qm_S), ((S10.1 63 ≤ x9 → (x8 = 0 → K (1 + 0) S10) ∧ (¬ x8 = 0 → K (1 + 10) S10)) ∧ (¬ S10.1 63 ≤ x9 → T_X8_requests (nI (src / 2)) S10 (fun r13 S15 => (¬ r13 = 0 → T_X8_comes (nI i) (nI q) x9 (if S15.1 63 ≤ x9 + 4 then S15.1 63 else x9 + 4) S15 (fun S19 => (S19.1 63 ≤ (if S15.1 63 ≤ x9 + 4 then S15.1 63 else x9 + 4) → X (if x8 = 0 then if S19.1 62 = 0 then (0 : Int32) else (1 : Int32) else (1 : Int32)) (x9 + 4) S19) ∧ (¬ S19.1 63 ≤ (if S15.1 63 ≤ x9 + 4 then S15.1 63 else x9 + 4) → (S19.1 55 < most → X (if x8 = 0 then if S19.1 62 = 0 then (0 : Int32) else (1 : Int32) else (1 : Int32)) (x9 + 4) S19) ∧ (¬ S19.1 55 < most → T_X8_scans (nI i) S19 (fun r25 S27 => (r25 = 0 → K (2 + 0) S27) ∧ (¬ r25 = 0 → K (2 + 10) S27)))))) ∧ (r13 = 0 → K 11 S15)))) → X x8 x9 S10) :
    ∀ (n k T : Nat) (A : qkA) (f sv : Nat → Int32) (rows : List qkRow) (S : qm_S), n + k = (ks.length + 3) / 4 → qkB A S → qkI T M A → T + 120 * (n + 1) ≤ 2 ^ 20 → (aSeat A)[i]? = some (nI src) → kf_sent A (nI i) src = sent → rSeat S i (kf_order rows) → rows.length ≤ kf_nk A src (nI q) (ks.take (k * 4)) → S.1 55 = sv 9 → rF f S → S.1 63 = nI ks.length → rKeys S ks → S.1 52 = b → S.1 54 = d → (sv 6 = 0 ∨ sv 6 = 1) → sv 7 = 1 → (∀ S' : qm_S, qkB (kf_fin src sent b d (kf_bl src sent ks (nI q) b d most n k A f sv rows)).1 S' → qF i S S' → rSeat S' i (kf_fin src sent b d (kf_bl src sent ks (nI q) b d most n k A f sv rows)).2.2.2 → rF (kf_fin src sent b d (kf_bl src sent ks (nI q) b d most n k A f sv rows)).2.1 S' → K (kf_code (kf_fin src sent b d (kf_bl src sent ks (nI q) b d most n k A f sv rows)).2.2.1) S') → X (sv 6) (nI (k * 4)) S := by
  intro n
  induction n with
  | zero =>
    intro k T A f sv rows S hnk h hi hT hs hsent hraw hrl hsp hf h63 hK h52 h54 hs6 hs7 hk
    refine hX _ _ _ ?_
    rw [h63]
    refine pk_le ks.length (k * 4) (fun z => ?_) (fun z => absurd z (by omega))
    have hfin := hk S h qF.rf hraw hf
    have e : kf_code sv = if sv 6 = 0 then 1 + 0 else 1 + 10 := by
      unfold kf_code
      rw [hs7, Int32.add_zero]
    have e' : kf_code (kf_fin src sent b d (kf_bl src sent ks (nI q) b d most 0 k A f sv rows)).2.2.1 = kf_code sv := rfl
    rw [e', e] at hfin
    refine ⟨fun w => ?_, fun w => ?_⟩
    · rw [if_pos w] at hfin
      exact hfin
    · rw [if_neg w] at hfin
      exact hfin
  | succ n ih =>
    intro k T A f sv rows S hnk h hi hT hs hsent hraw hrl hsp hf h63 hK h52 h54 hs6 hs7 hk
    have hr12 := hi.1.len src h6
    have hbto : kf_bto ks.length k ≤ ks.length ∧ k * 4 ≤ kf_bto ks.length k := by
      unfold kf_bto
      split <;> omega
    have hcapx : ∃ m, m ≤ 12 ∧ aLn A (src / 2) 4 = nI m := (hi.2.1 (src / 2) (by omega)).2.2.1
    refine hX _ _ _ ?_
    rw [h63]
    refine pk_le ks.length (k * 4) (fun z => absurd z (by omega)) (fun z => ?_)
    have h4 : nI (k * 4) + (4 : Int32) = nI (k * 4 + 4) := nI_add _ 4
    rw [h4]
    have hto : ∀ S5 : qm_S, S5.1 63 = S.1 63 → (if S5.1 63 ≤ nI (k * 4 + 4) then S5.1 63 else nI (k * 4 + 4)) = nI (kf_bto ks.length k) := by
      intro S5 e5
      rw [e5, h63]
      unfold kf_bto
      by_cases w : (k + 1) * 4 < ks.length
      · rw [if_pos w, if_neg (nI_ge (by omega) (by omega)), show (k + 1) * 4 = k * 4 + 4 by omega]
      · rw [if_neg w, if_pos (nI_le (by omega) (by omega))]
    -- what the batch has told
    have hbs : ∀ rr, kf_bship src sent ks (nI q) b d k A f sv rr = kf_ship A src (kf_sent A (nI i) src) rr sv f b d (nI q) ((ks.drop (k * 4)).take (kf_bto ks.length k - k * 4)) := fun rr => by rw [hsent]; rfl
    have hbl : kf_bl src sent ks (nI q) b d most (n + 1) k A f sv rows = (if (kf_bship src sent ks (nI q) b d k A f sv rows).1 = 0 then (if n = 0 ∨ (kf_bship src sent ks (nI q) b d k A f sv rows).2.2.2.1 9 < most then kf_bl src sent ks (nI q) b d most n (k + 1) (kf_bship src sent ks (nI q) b d k A f sv rows).2.1 (kf_bship src sent ks (nI q) b d k A f sv rows).2.2.1 (kf_bship src sent ks (nI q) b d k A f sv rows).2.2.2.1 (kf_bship src sent ks (nI q) b d k A f sv rows).2.2.2.2 else (0, (kf_bship src sent ks (nI q) b d k A f sv rows).2.1, (kf_bship src sent ks (nI q) b d k A f sv rows).2.2.1, upd (kf_bship src sent ks (nI q) b d k A f sv rows).2.2.2.1 7 2, (kf_bship src sent ks (nI q) b d k A f sv rows).2.2.2.2)) else (1, (kf_bship src sent ks (nI q) b d k A f sv rows).2.1, (kf_bship src sent ks (nI q) b d k A f sv rows).2.2.1, upd (kf_bship src sent ks (nI q) b d k A f sv rows).2.2.2.1 6 1, kf_order (kf_bship src sent ks (nI q) b d k A f sv rows).2.2.2.2)) := rfl
    have hnr := bship_rows (sent := sent) (b := b) (d := d) (f := f) (sv := sv) (nI_nm1 (show q < 2 ^ 31 by omega)) hks hrl
    have tm : qkTm A (kf_bship src sent ks (nI q) b d k A f sv rows).2.1 := ship_tm
    have hi5 : qkI (T + 120) M (kf_bship src sent ks (nI q) b d k A f sv rows).2.1 := qkI.req (by omega) 3 T A f hi (by omega)
    have b7 : (kf_bship src sent ks (nI q) b d k A f sv rows).2.2.2.1 7 = 1 := (ship_sv (by decide) (by decide) (by decide)).trans hs7
    have b6 : (kf_bship src sent ks (nI q) b d k A f sv rows).1 = 0 → (kf_bship src sent ks (nI q) b d k A f sv rows).2.2.2.1 6 = if kf_capn A src < (kf_sel A src (kf_sent A (nI i) src) (nI q) ((ks.drop (k * 4)).take (kf_bto ks.length k - k * 4))).length then 1 else sv 6 := by
      intro c
      have c' : (kf_req (src / 2) b d 3 A f).1 = 0 := c
      rw [hbs]
      unfold kf_ship
      simp only [c', if_true]
      rw [upd_n (by decide), upd_n (by decide), upd_s]
    rw [hbl] at hk
    refine km_ship (A := A) (T := T) (M := M) (src := src) (j0 := k * 4) (j1 := kf_bto ks.length k) (b := b) (d := d) (col := nI q) (ks := ks) (rows := rows) (sv := sv) (f := f) (jj := fun S5 => if S5.1 63 ≤ nI (k * 4 + 4) then S5.1 63 else nI (k * 4 + 4)) (K0 := fun S15 => K 11 S15) h hi (by omega) hs h6 hd h52 h54 hsp hf (Or.inr ⟨⟨q, hq4, rfl⟩, hK, hbto.2, hbto.1, hk12⟩) hto hraw (bsel_len (nI_nm1 (show q < 2 ^ 31 by omega)) hks hrl hr12 _) (fun c S0 S7 e0 hB7 q7 r7 f7 s7 c7 => ?_) (fun c S5 hB5 q5 r5 f5 s5 => ?_)
    · rw [← hbs] at c hB7 r7 f7 s7
      have b6 := b6 c
      rw [if_pos c] at hk
      generalize kf_bship src sent ks (nI q) b d k A f sv rows = SH at hk c hB7 r7 f7 s7 hnr tm hi5 b7 b6
      rw [hto S0 e0]
      have x63 : S7.1 63 = nI ks.length := (q7.1 63 (by decide) (by decide) (by decide) (by decide) (by decide) (by decide) (by decide)).trans h63
      have x52 : S7.1 52 = b := (q7.1 52 (by decide) (by decide) (by decide) (by decide) (by decide) (by decide) (by decide)).trans h52
      have x54 : S7.1 54 = d := (q7.1 54 (by decide) (by decide) (by decide) (by decide) (by decide) (by decide) (by decide)).trans h54
      have xK : rKeys S7 ks := fun j x hx => by rw [q7.2.1 64 (by decide) (by decide) (by decide) (by decide)]; exact hK j x hx
      have xs : (aSeat SH.2.1)[i]? = some (nI src) := by rw [tm.2.2.2.2.2.2.1]; exact hs
      have xsent : kf_sent SH.2.1 (nI i) src = sent := by rw [sent_tm tm]; exact hsent
      have e6 : (if sv 6 = 0 then if S7.1 62 = 0 then (0 : Int32) else (1 : Int32) else (1 : Int32)) = SH.2.2.2.1 6 := by
        rw [b6, c7]
        by_cases w : kf_capn A src < (kf_sel A src (kf_sent A (nI i) src) (nI q) ((ks.drop (k * 4)).take (kf_bto ks.length k - k * 4))).length
        · rw [b2_t (decide_eq_true w), if_pos w, if_neg (show ¬ (1 : Int32) = 0 by decide)]
          by_cases w' : sv 6 = 0
          · rw [if_pos w']
          · rw [if_neg w']
        · rw [b2_f (decide_eq_false w), if_neg w, if_pos rfl]
          rcases hs6 with w' | w'
          · rw [if_pos w', w']
          · rw [w', if_neg (by decide)]
      have s6' : SH.2.2.2.1 6 = 0 ∨ SH.2.2.2.1 6 = 1 := by
        rw [b6]
        by_cases w : kf_capn A src < (kf_sel A src (kf_sent A (nI i) src) (nI q) ((ks.drop (k * 4)).take (kf_bto ks.length k - k * 4))).length
        · rw [if_pos w]; exact Or.inr rfl
        · rw [if_neg w]; exact hs6
      have go : (n = 0 ∨ SH.2.2.2.1 9 < most) → X (SH.2.2.2.1 6) (nI (k * 4 + 4)) S7 := by
        intro w
        rw [if_pos w] at hk
        have := ih (k + 1) (T + 120) SH.2.1 SH.2.2.1 SH.2.2.2.1 SH.2.2.2.2 S7 (by omega) hB7 hi5 (by omega) xs xsent r7 (by rw [nk_tm tm]; exact hnr) s7 f7 x63 xK x52 x54 s6' b7 (fun S' g1 g2 g3 g4 => hk S' g1 (q7.tr g2) g3 g4)
        rw [show (k + 1) * 4 = k * 4 + 4 by omega] at this
        exact this
      rw [x63, e6]
      refine pk_le ks.length (kf_bto ks.length k) (fun w => go (Or.inl ?_)) (fun w => ?_)
      · unfold kf_bto at w
        split at w <;> omega
      · have hn0 : ¬ n = 0 := by
          unfold kf_bto at w
          split at w <;> omega
        rw [s7]
        refine ⟨fun w' => go (Or.inr w'), fun w' => ?_⟩
        rw [if_neg (by rintro (z1 | z1); exact hn0 z1; exact w' z1)] at hk
        have hfin : kf_fin src sent b d (0, SH.2.1, SH.2.2.1, upd SH.2.2.2.1 7 2, SH.2.2.2.2) = kf_scan SH.2.1 src sent (upd SH.2.2.2.1 7 2) SH.2.2.1 b d := if_pos rfl
        rw [hfin] at hk
        have h7 : (kf_scan SH.2.1 src sent (upd SH.2.2.2.1 7 2) SH.2.2.1 b d).2.2.1 7 = 2 := (scan_sv (by decide) (by decide) (by decide)).trans upd_s
        refine km_scans (A := SH.2.1) (T := T + 120) (M := M) (sv := upd SH.2.2.2.1 7 2) (f := SH.2.2.1) (b := b) (d := d) hB7 hi5 ⟨by omega, hM⟩ xs h6 hd x52 x54 (by rw [upd_n (by decide)]; exact s7) f7 (fun S' g1 g2 g3 g4 g5 g6 => ?_)
        rw [xsent] at g1 g3 g4 g5 g6 ⊢
        have := hk S' g1 (q7.tr g2) g3 g4
        unfold kf_code at this
        rw [h7] at this
        refine ⟨fun w2 => ?_, fun w2 => ?_⟩
        · rw [if_pos w2] at this
          rw [Int32.add_zero]
          exact this
        · rw [if_neg w2] at this
          exact this
    · rw [← hbs] at c hB5 r5 f5 s5
      rw [if_neg c] at hk
      generalize kf_bship src sent ks (nI q) b d k A f sv rows = SH at hk c hB5 r5 f5 s5 b7
      have hfin : kf_fin src sent b d (1, SH.2.1, SH.2.2.1, upd SH.2.2.2.1 6 1, kf_order SH.2.2.2.2) = (SH.2.1, SH.2.2.1, upd SH.2.2.2.1 6 1, kf_order SH.2.2.2.2) := if_neg (show ¬ (1 : Nat) = 0 by decide)
      rw [hfin] at hk
      have := hk S5 hB5 q5 r5 f5
      have e : kf_code (upd SH.2.2.2.1 6 1) = 11 := by
        unfold kf_code
        rw [upd_s, if_neg (by decide), upd_n (by decide), b7]
        decide
      dsimp only at this
      rw [e] at this
      exact this
