/-! SP 20: what a seat's taking leaves; bounds -/
set_option maxRecDepth 100000
/-- a question goes on: what stays -/
def qkTk (A A' : qkA) : Prop := (∀ k, k ≠ 15 → aQ A' k = aQ A k) ∧ (∀ l k, k ≠ 6 → k ≠ 8 → k ≠ 9 → aLn A' l k = aLn A l k) ∧ aFb A' = aFb A ∧ aRow A' = aRow A ∧ aWr A' = aWr A ∧ aSeat A' = aSeat A ∧ aLink A' = aLink A ∧ aCond A' = aCond A ∧ aOut A' = aOut A ∧ aBun A' = aBun A ∧ aLa A' = aLa A
theorem qkTk.rf {A : qkA} : qkTk A A := ⟨fun _ _ => rfl, fun _ _ _ _ _ => rfl, rfl, rfl, rfl, rfl, rfl, rfl, rfl, rfl, rfl⟩
theorem qkTk.tr {A B C : qkA} (p : qkTk A B) (q : qkTk B C) : qkTk A C := by
  obtain ⟨p1, p2, p3, p4, p5, p6, p7, p8, p9, p10, p11⟩ := p
  obtain ⟨q1, q2, q3, q4, q5, q6, q7, q8, q9, q10, q11⟩ := q
  exact ⟨fun k h => (q1 k h).trans (p1 k h), fun l k a b c => (q2 l k a b c).trans (p2 l k a b c), q3.trans p3, q4.trans p4, q5.trans p5, q6.trans p6, q7.trans p7, q8.trans p8, q9.trans p9, q10.trans p10, q11.trans p11⟩
theorem qkTm.tk {A B : qkA} (p : qkTm A B) : qkTk A B := by
  obtain ⟨p1, p2, p3, p4, p5, p6, p7, p8, p9, p10, p11, p12, p13, p14⟩ := p
  exact ⟨p1, p2, p4, p5, p6, p7, p8, p9, p10, p11, p12⟩
theorem qkTk.enter {A : qkA} {src : Nat} {sent : List qkC} {rows : List qkRow} : qkTk A (kf_enter A src sent rows) := ⟨fun _ _ => rfl, fun _ _ _ _ _ => rfl, rfl, rfl, rfl, rfl, rfl, rfl, rfl, rfl, rfl⟩
/-- a cell, a row, rows as they may be -/
def kf_val (v : Int32) : Prop := kf_num v = true ∨ v = 5000 ∨ v = 5001
def qkVal (r : qkRow) : Prop := ∀ q, q < 4 → kf_val (r.2 q)
def qkRs (rows : List qkRow) : Prop := rows.length ≤ 12 ∧ ∀ r ∈ rows, qkVal r
theorem qkRs.nil : qkRs [] := ⟨Nat.zero_le _, fun r h => absurd h List.not_mem_nil⟩
def qkGd (A : qkA) : Prop := (∀ s, s < 6 → qkRs (aRow A s)) ∧ (∀ l, l < 3 → ∃ m, m ≤ 12 ∧ aLn A l 4 = nI m) ∧ (aCache A).length ≤ 6 ∧ ∀ e ∈ aCache A, qkRs e.2.2.1
theorem gd_tm {A B : qkA} (h : qkGd A) (p : qkTm A B) : qkGd B := by
  obtain ⟨p1, p2, p3, p4, p5, p6, p7, p8, p9, p10, p11, p12, p13, p14⟩ := p
  refine ⟨fun s hs => by rw [p5]; exact h.1 s hs, fun l hl => ?_, Nat.le_trans p13.length_le h.2.2.1, fun e he => h.2.2.2 e (p13.subset he)⟩
  rw [p2 l 4 (by decide) (by decide) (by decide)]
  exact h.2.1 l hl
theorem gd_enter {A : qkA} {src : Nat} {sent : List qkC} {rows : List qkRow} (h : qkGd A) (hr : qkRs rows) : qkGd (kf_enter A src sent rows) := by
  obtain ⟨h1, h2, h3, h4⟩ := h
  refine ⟨h1, h2, ?_, fun e he => ?_⟩
  · show ((if (aCache A).length = 6 then (aCache A).eraseIdx 0 else aCache A) ++ [_]).length ≤ 6
    rw [List.length_append]
    split
    · rename_i q
      rw [List.length_eraseIdx_of_lt (by omega), q]
      exact Nat.le_refl 6
    · show (aCache A).length + 1 ≤ 6
      omega
  · have he : e ∈ (if (aCache A).length = 6 then (aCache A).eraseIdx 0 else aCache A) ++ [(src, sent, rows, aQ A 15, aQ A 14)] := he
    rw [List.mem_append, List.mem_singleton] at he
    rcases he with q | q
    · split at q
      · exact h4 e (List.mem_of_mem_eraseIdx q)
      · exact h4 e q
    · rw [q]
      exact hr
theorem cp_two {α : Type} {p q r : α → Bool} : ∀ {l : List α}, (∀ a ∈ l, p a = true → r a = true) → (∀ a ∈ l, q a = true → r a = true) → (∀ a ∈ l, p a = true → q a = true → False) → l.countP p + l.countP q ≤ l.countP r
  | [], _, _, _ => Nat.le_refl _
  | a :: t, h1, h2, h3 => by
    have ih := cp_two (p := p) (q := q) (r := r) (l := t) (fun b hb => h1 b (List.mem_cons_of_mem _ hb)) (fun b hb => h2 b (List.mem_cons_of_mem _ hb)) (fun b hb => h3 b (List.mem_cons_of_mem _ hb))
    have k1 := h1 a List.mem_cons_self
    have k2 := h2 a List.mem_cons_self
    have k3 := h3 a List.mem_cons_self
    rw [List.countP_cons, List.countP_cons, List.countP_cons]
    cases hp : p a <;> cases hq : q a <;> cases hr : r a <;> simp_all <;> omega
/-- rows with a key among ks -/
def kf_nk (A : qkA) (src : Nat) (col : Int32) (ks : List Int32) : Nat := (aRow A src).countP (fun r => ks.any (fun k => decide (r.2 col.toNatClampNeg = k)))
theorem sel_len {A : qkA} {src : Nat} {sent : List qkC} {col : Int32} {ks : List Int32} : (kf_sel A src sent col ks).length ≤ (aRow A src).length := List.length_filter_le _ _
theorem sel_nk {A : qkA} {src : Nat} {sent : List qkC} {col : Int32} {ks : List Int32} (hc : col ≠ -1) : (kf_sel A src sent col ks).length ≤ kf_nk A src col ks := by
  unfold kf_sel kf_nk
  rw [← List.countP_eq_length_filter]
  refine List.countP_mono_left fun r _ hr => ?_
  rw [Bool.and_eq_true] at hr
  unfold kf_is at hr
  rw [decide_eq_false hc, Bool.false_or] at hr
  exact hr.1
theorem nk_le {A : qkA} {src : Nat} {col : Int32} {ks : List Int32} : kf_nk A src col ks ≤ (aRow A src).length := List.countP_le_length
theorem nk_app {A : qkA} {src : Nat} {col : Int32} {ks ls : List Int32} (hd : ∀ k ∈ ks, k ∉ ls) : kf_nk A src col ks + kf_nk A src col ls ≤ kf_nk A src col (ks ++ ls) := by
  unfold kf_nk
  refine cp_two (fun r _ h => ?_) (fun r _ h => ?_) (fun r _ h h' => ?_)
  · rw [List.any_append, h, Bool.true_or]
  · rw [List.any_append, h, Bool.or_true]
  · rw [List.any_eq_true] at h h'
    obtain ⟨k, k1, k2⟩ := h
    obtain ⟨l, l1, l2⟩ := h'
    have e1 := of_decide_eq_true k2
    have e2 := of_decide_eq_true l2
    exact hd k k1 (by rw [← e1, e2]; exact l1)
theorem ship_rows {A : qkA} {src : Nat} {sent : List qkC} {rows : List qkRow} {sv f : Nat → Int32} {b d col : Int32} {ks : List Int32} : (kf_ship A src sent rows sv f b d col ks).2.2.2.2.length ≤ rows.length + (kf_sel A src sent col ks).length := by
  unfold kf_ship
  dsimp only
  split
  · rw [List.length_append, List.length_take]
    omega
  · exact Nat.le_add_right _ _
theorem ship_val {A : qkA} {src : Nat} {sent : List qkC} {rows : List qkRow} {sv f : Nat → Int32} {b d col : Int32} {ks : List Int32} (h : ∀ r ∈ aRow A src, qkVal r) (h2 : ∀ r ∈ rows, qkVal r) : ∀ r ∈ (kf_ship A src sent rows sv f b d col ks).2.2.2.2, qkVal r := by
  unfold kf_ship
  dsimp only
  split
  · intro r hr
    rw [List.mem_append] at hr
    rcases hr with q | q
    · exact h2 r q
    · exact h r ((List.mem_filter.mp (List.mem_of_mem_take q)).1)
  · exact h2
theorem oins_mem {l : List qkRow} {r u : qkRow} (h : u ∈ kf_oins l r) : u ∈ l ∨ u = r := by
  unfold kf_oins at h
  rw [List.mem_append, List.mem_cons] at h
  rcases h with q | q | q
  · exact Or.inl (List.mem_of_mem_take q)
  · exact Or.inr q
  · exact Or.inl (List.mem_of_mem_drop q)
theorem order_mem : ∀ {rows b : List qkRow} {u : qkRow}, u ∈ rows.foldl kf_oins b → u ∈ rows ∨ u ∈ b
  | [], b, u, h => Or.inr h
  | a :: t, b, u, h => by
    rw [List.foldl_cons] at h
    rcases order_mem h with q | q
    · exact Or.inl (List.mem_cons_of_mem _ q)
    · rcases oins_mem q with z | z
      · exact Or.inr z
      · rw [z]
        exact Or.inl List.mem_cons_self
theorem order_val {rows : List qkRow} (h : ∀ r ∈ rows, qkVal r) : ∀ r ∈ kf_order rows, qkVal r := fun r hr => by
  rcases order_mem hr with q | q
  · exact h r q
  · exact absurd q List.not_mem_nil
theorem ship_tm {A : qkA} {src : Nat} {sent : List qkC} {rows : List qkRow} {sv f : Nat → Int32} {b d col : Int32} {ks : List Int32} : qkTm A (kf_ship A src sent rows sv f b d col ks).2.1 := qkTm.req 3
theorem scan_gd {A : qkA} {src : Nat} {sent : List qkC} {sv f : Nat → Int32} {b d : Int32} (h : qkGd A) (hs : src < 6) : qkGd (kf_scan A src sent sv f b d).1 ∧ qkRs (kf_scan A src sent sv f b d).2.2.2 ∧ qkTk A (kf_scan A src sent sv f b d).1 := by
  have t := ship_tm (A := A) (src := src) (sent := sent) (rows := []) (sv := upd sv 6 0) (f := f) (b := b) (d := d) (col := -1) (ks := [])
  have r := ship_rows (A := A) (src := src) (sent := sent) (rows := []) (sv := upd sv 6 0) (f := f) (b := b) (d := d) (col := -1) (ks := [])
  have l := sel_len (A := A) (src := src) (sent := sent) (col := -1) (ks := [])
  have h1 := h.1 src hs
  simp only [List.length_nil] at r
  have r12 : qkRs (kf_ship A src sent [] (upd sv 6 0) f b d (-1) []).2.2.2.2 := ⟨by have := h1.1; omega, ship_val h1.2 (fun r h => absurd h List.not_mem_nil)⟩
  unfold kf_scan
  split
  · split
    · exact ⟨gd_enter (gd_tm h t) r12, r12, t.tk.tr qkTk.enter⟩
    · exact ⟨gd_tm h t, r12, t.tk⟩
  · exact ⟨gd_tm h t, r12, t.tk⟩
theorem dw_drop {α : Type} {p : α → Bool} : ∀ l : List α, l.drop (l.takeWhile p).length = l.dropWhile p
  | [] => rfl
  | a :: t => by
    rw [List.takeWhile_cons, List.dropWhile_cons]
    split
    · rw [List.length_cons, List.drop_succ_cons]
      exact dw_drop t
    · rfl
theorem kf_kpl_ins_nd {ks : List Int32} {v : Int32} (h : ks.Pairwise (· < ·)) : (kf_ins ks v).Pairwise (· < ·) := by
  unfold kf_ins
  split
  · rename_i q
    have hp : ∀ a ∈ ks.take (kf_kpl ks v), a < v := by
      intro a ha
      have e : ks.take (kf_kpl ks v) = ks.takeWhile (fun k => decide (¬ v ≤ k)) := by
        unfold kf_kpl
        have := List.takeWhile_prefix (l := ks) (fun k => decide (¬ v ≤ k))
        exact (List.prefix_iff_eq_take.mp this).symm
      rw [e] at ha
      have := List.all_eq_true.mp List.all_takeWhile a ha
      exact Int32.not_le.mp (of_decide_eq_true this)
    have hd : ∀ a ∈ ks.drop (kf_kpl ks v), v < a := by
      rw [Bool.and_eq_true] at q
      have q2 := q.2
      intro a ha
      obtain ⟨i, hi⟩ := List.getElem?_of_mem ha
      rw [List.getElem?_drop] at hi
      have hlt : kf_kpl ks v < ks.length := by
        rw [List.getElem?_eq_some_iff] at hi
        obtain ⟨z, -⟩ := hi
        omega
      have hk : ¬ decide (¬ v ≤ ks[kf_kpl ks v]) = true := by
        have e : ks.dropWhile (fun k => decide (¬ v ≤ k)) = ks.drop (kf_kpl ks v) := (dw_drop ks).symm
        have := List.head?_dropWhile_not (fun k => decide (¬ v ≤ k)) ks
        rw [e] at this
        rw [List.head?_drop, List.getElem?_eq_getElem hlt] at this
        simpa using this
      have hle : v ≤ ks[kf_kpl ks v] := by simpa using hk
      rw [List.getElem?_eq_getElem hlt] at q2
      have hne : ¬ ks[kf_kpl ks v] = v := by simpa using q2
      have hlt2 : v < ks[kf_kpl ks v] := Int32.lt_of_le_of_ne hle (fun z => hne z.symm)
      by_cases hi0 : i = 0
      · subst hi0
        rw [Nat.add_zero, List.getElem?_eq_getElem hlt] at hi
        cases hi
        exact hlt2
      · rw [List.getElem?_eq_some_iff] at hi
        obtain ⟨z, z2⟩ := hi
        rw [← z2]
        exact Int32.lt_trans hlt2 (List.pairwise_iff_getElem.mp h _ _ hlt z (by omega))
    rw [List.pairwise_append]
    refine ⟨h.sublist (List.take_sublist _ _), List.pairwise_cons.mpr ⟨hd, h.sublist (List.drop_sublist _ _)⟩, fun a ha b hb => ?_⟩
    rw [List.mem_cons] at hb
    rcases hb with rfl | hb
    · exact hp a ha
    · exact Int32.lt_trans (hp a ha) (hd b hb)
  · exact h
theorem keys_asc {col : Int32} {rows : List qkRow} : (kf_keys col rows).Pairwise (· < ·) := foldl_pr (P := fun ks : List Int32 => ks.Pairwise (· < ·)) (fun _ _ h => kf_kpl_ins_nd h) List.Pairwise.nil
theorem order_len {rows : List qkRow} : (kf_order rows).length = rows.length := by
  show (rows.foldl kf_oins []).length = _
  rw [kf_order_len]
  rfl


theorem nk_tm {A B : qkA} {src : Nat} {col : Int32} {ks : List Int32} (p : qkTm A B) : kf_nk B src col ks = kf_nk A src col ks := by
  unfold kf_nk
  rw [p.2.2.2.2.1]
theorem chunk {ks : List Int32} {k : Nat} : (ks.drop (k * 4)).take (kf_bto ks.length k - k * 4) = (ks.drop (k * 4)).take 4 := by
  unfold kf_bto
  split
  · rw [show (k + 1) * 4 - k * 4 = 4 by omega]
  · rw [List.take_of_length_le (by rw [List.length_drop]; omega), List.take_of_length_le (by rw [List.length_drop]; omega)]
theorem bship_rows {src : Nat} {sent : List qkC} {ks : List Int32} {col b d : Int32} {k : Nat} {A : qkA} {f sv : Nat → Int32} {rows : List qkRow} (hc : col ≠ -1) (hks : ks.Pairwise (· < ·)) (hr : rows.length ≤ kf_nk A src col (ks.take (k * 4))) : (kf_bship src sent ks col b d k A f sv rows).2.2.2.2.length ≤ kf_nk A src col (ks.take ((k + 1) * 4)) := by
  unfold kf_bship
  rw [chunk]
  have h1 := ship_rows (A := A) (src := src) (sent := sent) (rows := rows) (sv := sv) (f := f) (b := b) (d := d) (col := col) (ks := (ks.drop (k * 4)).take 4)
  have h2 := sel_nk (A := A) (src := src) (sent := sent) (col := col) (ks := (ks.drop (k * 4)).take 4) hc
  have h3 := nk_app (A := A) (src := src) (col := col) (ks := ks.take (k * 4)) (ls := (ks.drop (k * 4)).take 4) (fun x hx hy => by
    rw [← List.take_append_drop (k * 4) ks, List.pairwise_append] at hks
    exact Int32.lt_irrefl (hks.2.2 x hx x (List.mem_of_mem_take hy)))
  rw [show (k + 1) * 4 = k * 4 + 4 by omega, List.take_add]
  omega
theorem bl_gd {src : Nat} {sent : List qkC} {ks : List Int32} {col b d most : Int32} (hs : src < 6) (hc : col ≠ -1) (hks : ks.Pairwise (· < ·)) : ∀ {n k : Nat} {A : qkA} {f sv : Nat → Int32} {rows : List qkRow}, qkGd A → rows.length ≤ kf_nk A src col (ks.take (k * 4)) → (∀ r ∈ rows, qkVal r) → qkTm A (kf_bl src sent ks col b d most n k A f sv rows).2.1 ∧ qkRs (kf_bl src sent ks col b d most n k A f sv rows).2.2.2.2
  | 0, k, A, f, sv, rows, hg, hr, hv => by
    refine ⟨qkTm.rf, ?_, order_val hv⟩
    show (kf_order rows).length ≤ 12
    rw [order_len]
    have := nk_le (A := A) (src := src) (col := col) (ks := ks.take (k * 4))
    have := (hg.1 src hs).1
    omega
  | n + 1, k, A, f, sv, rows, hg, hr, hv => by
    have h1 := bship_rows (sent := sent) (b := b) (d := d) (f := f) (sv := sv) hc hks hr
    have h2 := nk_le (A := A) (src := src) (col := col) (ks := ks.take ((k + 1) * 4))
    have h3 := hg.1 src hs
    have t : qkTm A (kf_bship src sent ks col b d k A f sv rows).2.1 := ship_tm
    have v12 : ∀ r ∈ (kf_bship src sent ks col b d k A f sv rows).2.2.2.2, qkVal r := ship_val h3.2 hv
    have r12 : qkRs (kf_bship src sent ks col b d k A f sv rows).2.2.2.2 := ⟨by have := h3.1; omega, v12⟩
    rw [kf_bl]
    split
    · split
      · have ih := bl_gd hs hc hks (sent := sent) (b := b) (d := d) (most := most) (n := n) (k := k + 1) (f := (kf_bship src sent ks col b d k A f sv rows).2.2.1) (sv := (kf_bship src sent ks col b d k A f sv rows).2.2.2.1) (gd_tm hg t) (by rw [nk_tm t]; exact h1) v12
        exact ⟨t.tr ih.1, ih.2⟩
      · exact ⟨t, r12⟩
    · refine ⟨t, ?_, order_val v12⟩
      show (kf_order _).length ≤ 12
      rw [order_len]
      exact r12.1
theorem nI_m1 {q : Nat} (hq : q < 4) : nI q ≠ -1 := by
  intro z
  have : ¬ nI q < 0 := nI_pos (by omega)
  rw [z] at this
  exact this (by decide)
theorem bind_gd {A : qkA} {src osrc : Nat} {sent : List qkC} {sv osv : Nat → Int32} {orows : List qkRow} {l : qkC} {b d : Int32} {f : Nat → Int32} (hg : qkGd A) (hs : src < 6) (hl : (∃ q, q < 4 ∧ l.2.1 = nI q) ∧ (∃ q, q < 4 ∧ l.2.2.2 = nI q)) : qkTm A (kf_bind A src osrc sent sv osv orows l b d f).2.1 ∧ qkRs (kf_bind A src osrc sent sv osv orows l b d f).2.2.2.2 := by
  have hc : ∀ u, kf_colOf l u ≠ -1 := by
    intro u
    obtain ⟨⟨q, q1, q2⟩, ⟨p, p1, p2⟩⟩ := hl
    unfold kf_colOf
    split
    · rw [q2]; exact nI_m1 q1
    · rw [p2]; exact nI_m1 p1
  unfold kf_bind
  split
  · exact ⟨qkTm.rf, qkRs.nil⟩
  · split
    · exact ⟨qkTm.rf, qkRs.nil⟩
    · split
      · exact ⟨qkTm.rf, qkRs.nil⟩
      · exact bl_gd hs (hc _) keys_asc hg (Nat.zero_le _) (fun r h => absurd h List.not_mem_nil)
theorem pre_gd {A : qkA} {n : Nat} {ss : Nat → qkSeat} {i : Nat} {fresh b d : Int32} {f : Nat → Int32} (hg : qkGd A) (hs : (ss i).1 < 6) (hlk : ∀ l ∈ aLink A, (∃ q, q < 4 ∧ l.2.1 = nI q) ∧ (∃ q, q < 4 ∧ l.2.2.2 = nI q)) : qkGd (kf_pre A n ss i fresh b d f).1 ∧ qkRs (kf_pre A n ss i fresh b d f).2.2.2 ∧ qkTk A (kf_pre A n ss i fresh b d f).1 := by
  unfold kf_pre
  split
  · split
    · rename_i e _ E hE
      exact ⟨hg, hg.2.2.2 E (List.mem_of_getElem? hE), qkTk.rf⟩
    · exact ⟨hg, qkRs.nil, qkTk.rf⟩
  · split
    · exact scan_gd hg hs
    · split
      · exact ⟨hg, qkRs.nil, qkTk.rf⟩
      · rename_i l hl
        have hb := bind_gd (A := A) (src := (ss i).1) (osrc := (ss (kf_oth l ((ss i).2.2.2.2 0))).1) (sent := (ss i).2.2.1) (sv := upd (ss i).2.2.2.2 7 3) (osv := (ss (kf_oth l ((ss i).2.2.2.2 0))).2.2.2.2) (orows := (ss (kf_oth l ((ss i).2.2.2.2 0))).2.2.2.1) (l := l) (b := b) (d := d) (f := f) hg hs (hlk l (List.mem_of_getElem? hl))
        split
        · have h2 := scan_gd (sent := (ss i).2.2.1) (sv := (kf_bind A (ss i).1 (ss (kf_oth l ((ss i).2.2.2.2 0))).1 (ss i).2.2.1 (upd (ss i).2.2.2.2 7 3) (ss (kf_oth l ((ss i).2.2.2.2 0))).2.2.2.2 (ss (kf_oth l ((ss i).2.2.2.2 0))).2.2.2.1 l b d f).2.2.2.1) (f := (kf_bind A (ss i).1 (ss (kf_oth l ((ss i).2.2.2.2 0))).1 (ss i).2.2.1 (upd (ss i).2.2.2.2 7 3) (ss (kf_oth l ((ss i).2.2.2.2 0))).2.2.2.2 (ss (kf_oth l ((ss i).2.2.2.2 0))).2.2.2.1 l b d f).2.2.1) (b := b) (d := d) (gd_tm hg hb.1) hs
          exact ⟨h2.1, h2.2.1, hb.1.tk.tr h2.2.2⟩
        · exact ⟨gd_tm hg hb.1, hb.2, hb.1.tk⟩
theorem take_gd {A : qkA} {n : Nat} {ss : Nat → qkSeat} {i : Nat} {fresh b d : Int32} {f : Nat → Int32} (hg : qkGd A) (hs : (ss i).1 < 6) (hlk : ∀ l ∈ aLink A, (∃ q, q < 4 ∧ l.2.1 = nI q) ∧ (∃ q, q < 4 ∧ l.2.2.2 = nI q)) : qkGd (kf_take A n ss i fresh b d f).1 ∧ qkRs (kf_take A n ss i fresh b d f).2.2.2.2.2.1 ∧ qkTk A (kf_take A n ss i fresh b d f).1 := by
  have h := pre_gd (n := n) (fresh := fresh) (b := b) (d := d) (f := f) hg hs hlk
  refine ⟨h.1, ⟨?_, fun r hr => h.2.1.2 r (List.mem_filter.mp hr).1⟩, h.2.2⟩
  show (List.filter _ _).length ≤ 12
  exact Nat.le_trans (List.length_filter_le _ _) h.2.1.1
/-! which seat is next -/
def kf_cnt (ss : Nat → qkSeat) : Nat → Nat
  | 0 => 0
  | k + 1 => kf_cnt ss k + (if kf_taken ss k = true then 1 else 0)
theorem cnt_le {ss : Nat → qkSeat} : ∀ {k : Nat}, kf_cnt ss k ≤ k
  | 0 => Nat.le_refl _
  | k + 1 => by
    have := cnt_le (ss := ss) (k := k)
    rw [kf_cnt]
    split <;> omega
theorem cnt_some {ss : Nat → qkSeat} : ∀ {k : Nat}, kf_cnt ss k < k → ∃ i, i < k ∧ kf_taken ss i = false
  | 0, h => absurd h (Nat.not_lt_zero _)
  | k + 1, h => by
    by_cases q : kf_taken ss k = true
    · rw [kf_cnt, if_pos q] at h
      obtain ⟨i, h1, h2⟩ := cnt_some (ss := ss) (k := k) (by omega)
      exact ⟨i, by omega, h2⟩
    · exact ⟨k, Nat.lt_succ_self _, by simpa using q⟩
theorem taken_n {ss : Nat → qkSeat} {i j : Nat} {v : qkSeat} (h : j ≠ i) : kf_taken (qkU ss i v) j = kf_taken ss j := by
  unfold kf_taken
  rw [qkU_n h]
theorem cnt_ge {ss : Nat → qkSeat} {i : Nat} {v : qkSeat} : ∀ {k : Nat}, k ≤ i → kf_cnt (qkU ss i v) k = kf_cnt ss k
  | 0, _ => rfl
  | k + 1, h => by
    rw [kf_cnt, kf_cnt, cnt_ge (by omega), taken_n (by omega)]
theorem cnt_upd {ss : Nat → qkSeat} {i : Nat} {v : qkSeat} (h0 : kf_taken ss i = false) (h1 : ¬ v.2.2.2.2 5 = 0) : ∀ {k : Nat}, i < k → kf_cnt (qkU ss i v) k = kf_cnt ss k + 1
  | 0, h => absurd h (Nat.not_lt_zero _)
  | k + 1, h => by
    rw [kf_cnt, kf_cnt]
    by_cases e : i = k
    · subst e
      rw [cnt_ge (Nat.le_refl _), if_pos (show kf_taken (qkU ss i v) i = true by unfold kf_taken; rw [qkU_s]; exact decide_eq_true h1), if_neg (show ¬ kf_taken ss i = true by rw [h0]; decide)]
    · rw [cnt_upd h0 h1 (by omega), taken_n (Ne.symm e)]
      omega
theorem next_some {A : qkA} {n : Nat} {ss : Nat → qkSeat} : ∀ {k : Nat}, (∃ i, i < k ∧ kf_taken ss i = false) → ∃ b, (kf_nextS A n ss k).1 = some b
  | 0, ⟨i, h, _⟩ => absurd h (Nat.not_lt_zero _)
  | k + 1, ⟨i, h1, h2⟩ => by
    rw [kf_nextS]
    by_cases q : kf_taken ss k = true
    · rw [if_pos q]
      refine next_some ⟨i, ?_, h2⟩
      have : i ≠ k := fun e => by rw [e, q] at h2; cases h2
      omega
    · rw [if_neg q]
      split
      · exact ⟨k, rfl⟩
      · rename_i z
        cases hx : (kf_nextS A n ss k).1 with
        | some b => exact ⟨b, rfl⟩
        | none => exact absurd (by rw [hx]; rfl) z
theorem next_not {A : qkA} {n : Nat} {ss : Nat → qkSeat} : ∀ {k b : Nat}, (kf_nextS A n ss k).1 = some b → kf_taken ss b = false
  | 0, b, h => by cases h
  | k + 1, b, h => by
    rw [kf_nextS] at h
    by_cases q : kf_taken ss k = true
    · rw [if_pos q] at h
      exact next_not h
    · rw [if_neg q] at h
      split at h
      · cases h
        simpa using q
      · exact next_not h
