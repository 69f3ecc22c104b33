/-! SQ 4: a write told to the entries; groups of fields that stay -/
set_option maxRecDepth 100000
theorem until_now {ws : List Int32} {m now : Int32} (h : ∀ x ∈ ws, ¬ x - 1 = -1) : kf_until ws m now = if kf_until ws m (-1) = -1 then now else kf_until ws m (-1) := by
  induction ws with
  | nil =>
    show now = if (-1 : Int32) = -1 then now else -1
    rw [if_pos rfl]
  | cons x ws ih =>
    have ih := ih (fun y hy => h y (List.mem_cons_of_mem _ hy))
    have hx := h x (List.mem_cons_self ..)
    show (if x ≤ m then kf_until ws m now else x - 1) = if (if x ≤ m then kf_until ws m (-1) else x - 1) = -1 then now else (if x ≤ m then kf_until ws m (-1) else x - 1)
    by_cases c : x ≤ m
    · rw [if_pos c, if_pos c]
      exact ih
    · rw [if_neg c, if_neg c, if_neg hx]
theorem until_snoc {ws : List Int32} {m w now : Int32} (hm : ¬ w ≤ m) : kf_until (ws ++ [w]) m now = kf_until ws m (w - 1) := by
  unfold kf_until
  rw [List.foldr_append]
  show ws.foldr _ (if w ≤ m then now else w - 1) = _
  rw [if_neg hm]
theorem since_snoc {ws : List Int32} {m w : Int32} (hm : m < w) : kf_since (ws ++ [w]) m = kf_since ws m := by
  unfold kf_since
  rw [List.foldl_append]
  show (if m < w then _ else w) = _
  rw [if_pos hm]
theorem dr_snoc_n {ms : List qkMsg} {x : qkMsg} {E : qkEnt} (h : kf_gone x E = false) : kf_dr (ms ++ [x]) E = kf_dr ms E := by
  unfold kf_dr
  rw [List.filter_append, List.filter_cons_of_neg (by rw [h]; simp)]
  simp
theorem dr_snoc_s {ms : List qkMsg} {x : qkMsg} {E : qkEnt} (h : kf_gone x E = true) : kf_dr (ms ++ [x]) E = if kf_dr ms E = -1 then x.2.1 else if kf_dr ms E ≤ x.2.1 then kf_dr ms E else x.2.1 := by
  unfold kf_dr
  have e : List.filter (fun m => kf_gone m E) [x] = [x] := by simp [h]
  rw [List.filter_append, e, List.foldl_append]
  rfl
theorem wr_pos {A : qkA} {T M s : Nat} (h : iT T M A) (hM : M ≤ 2 ^ 20) (hs : s < 6) : ∀ x ∈ aWr A s, ¬ x - 1 = -1 := by
  obtain ⟨_, m, hm, _, hw, _⟩ := h
  intro x hx
  obtain ⟨j, h1, h2, rfl⟩ := (hw s hs).2 x hx
  rw [s_1 h1]
  exact nI_nm1 (by omega)
def kf_wr1 (A : qkA) (s : Nat) : qkA := sMsg (sWr (sQ A (upd (aQ A) 14 (aQ A 14 + 1))) (qkU (aWr A) s (aWr A s ++ [aQ A 14 + 1]))) (aMsg A ++ [(nI s, aQ A 15 + aLn A (s / 2) 2, aQ A 14 + 1)])
theorem km_writes {A : qkA} {S : qm_S} {s T M : Nat} {K : qm_S → Prop} (hs : s < 6) (h7 : S.1 7 = aQ A 14) (h8 : S.1 8 = aQ A 15) (hL : cL A S) (hE : cE A S) (hi : iE A) (ht : iT T M A) (hTM : T ≤ 2 ^ 20 ∧ M ≤ 2 ^ 20) (hl : iL A) (hk : ∀ S' : qm_S, (∀ k, k ≠ 7 → k ≠ 39 → S'.1 k = S.1 k) → S'.1 7 = aQ A 14 + 1 → (∀ k, k ≠ 5 → (k < 40 ∨ 51 < k) → S'.2 k = S.2 k) → S'.2 5 = upd (S.2 5) s (aQ A 14 + 1) → cE (kf_written A s) S' → K S') : T_X8_writes (nI s) S K := by
  have hwp := wr_pos ht hTM.2 hs
  obtain ⟨⟨t, htT, ht15⟩, m, hmM, hm14, hw, hmsg, hent⟩ := ht
  obtain ⟨d, hd60, hlag⟩ := (hl (s / 2) (by omega)).2.1
  have hdue : ∀ x ∈ aMsg A, ¬ x.2.1 = -1 := fun x hx => by
    obtain ⟨d, hd, e⟩ := hmsg x hx
    rw [e]
    exact nI_nm1 (by omega)
  have hx1 : aQ A 15 + aLn A (s / 2) 2 = nI (t + d) := by rw [ht15, hlag, nI_add]
  have hw1 : aQ A 14 + 1 = nI (m + 1) := by rw [hm14, nI_1]
  obtain ⟨hn, hEn⟩ := hE
  have h6 := hi.1
  unfold T_X8_writes
  rw [nI_clamp (n := s) (by omega), h7, fm_half hs, nI_clamp (n := s / 2) (by omega)]
  refine ⟨pk_in s 6 hs, ?_⟩
  intro X hX
  refine lp (P := fun n st => X (nI n) st) (aCache A).length (fun n st => st.1 = upd S.1 7 (aQ A 14 + 1) ∧ (∀ k, k ≠ 43 → k ≠ 44 → st.2 k = qm_uA S.2 5 (upd (S.2 5) s (aQ A 14 + 1)) k) ∧ (∀ (i : Nat) (E : qkEnt), i < n → (aCache A)[i]? = some E → rEnt (aWr (kf_wr1 A s)) (aMsg (kf_wr1 A s)) st i E) ∧ ∀ (i : Nat) (E : qkEnt), n ≤ i → (aCache A)[i]? = some E → rEnt (aWr A) (aMsg A) st i E) (fun n st hn' hI ih => ?_) 0 _ (Nat.zero_le _) ⟨rfl, fun _ _ _ => rfl, fun i E z _ => absurd z (by omega), fun i E _ hE => hEn i E hE⟩
  obtain ⟨h1, h2, h3, h4⟩ := hI
  have s39 : st.1 39 = nI (aCache A).length := by rw [h1]; exact (upd_n (by decide)).trans hn
  have s7 : st.1 7 = aQ A 14 + 1 := by rw [h1]; exact upd_s
  have s8 : st.1 8 = aQ A 15 := by rw [h1]; exact (upd_n (by decide)).trans h8
  have s10 : st.2 10 (s / 2) = aLn A (s / 2) 2 := by
    rw [h2 10 (by decide) (by decide), uA_n (by decide)]
    exact (hL (s / 2) (by omega)).2.1
  refine hX _ _ ?_
  rw [s39, s7, s8, s10]
  refine pk_le _ n (fun z => ?_) (fun z => ?_)
  · obtain rfl : n = (aCache A).length := by omega
    refine km_drops (A := kf_wr1 A s) (t := aQ A 15) s8 (fun l hl => ?_) ⟨s39, fun i E hE => h3 i E (List.getElem?_eq_some_iff.mp hE).1 hE⟩ hi (fun x hx => ?_) (fun S' f1 f2 hc => ?_)
    · rw [h2 13 (by decide) (by decide), uA_n (by decide)]
      exact (hL l hl).2.2.2.2.1
    · rcases List.mem_append.mp hx with hx | hx
      · exact hdue x hx
      · rw [List.mem_singleton] at hx
        subst hx
        show ¬ aQ A 15 + aLn A (s / 2) 2 = -1
        rw [hx1]
        exact nI_nm1 (by omega)
    · refine hk S' (fun k a b => ?_) ?_ (fun k a b => ?_) ?_ hc
      · rw [f1 k b, h1, upd_n a]
      · rw [f1 7 (by decide), s7]
      · rw [f2 k b, h2 k (by omega) (by omega), uA_n a]
      · rw [f2 5 (by omega), h2 5 (by decide) (by decide), uA_s]
  · have hg : (aCache A)[n]? = some (aCache A)[n] := List.getElem?_eq_getElem z
    have hr := h4 n _ (Nat.le_refl _) hg
    obtain ⟨hs6, hcl, hrs⟩ := hi.2 _ (List.getElem_mem z)
    obtain ⟨j, hj, hmo⟩ := hent.1 _ (List.getElem_mem z)
    generalize hEE : (aCache A)[n] = E at hg hr hs6 hcl hrs hmo
    obtain ⟨a0, a1, a2, a3, a4, a5⟩ := hr
    rw [nI_clamp (n := n) (by omega), a0, nI_1]
    refine ⟨pk_in n 6 (by omega), pj_eq E.1 s (fun q => ih z _ ?_) (fun q => ?_)⟩
    · refine ⟨h1, h2, fun i E' hi' hE' => ?_, fun i E' hi' hE' => h4 i E' (by omega) hE'⟩
      by_cases e : i = n
      · subst e
        rw [hg] at hE'
        cases hE'
        have hgo : kf_gone (nI s, aQ A 15 + aLn A (s / 2) 2, aQ A 14 + 1) E = false := by
          unfold kf_gone
          simp only [decide_eq_false_iff_not]
          rintro ⟨z1, _⟩
          exact q ((nI_eq (by omega) (by omega)).mp z1)
        have hW : aWr (kf_wr1 A s) E.1 = aWr A E.1 := qkU_n q
        have hM : kf_dr (aMsg (kf_wr1 A s)) E = kf_dr (aMsg A) E := dr_snoc_n hgo
        exact ⟨a0, a1, by rw [hW]; exact a2, by rw [hW]; exact a3, by rw [hM]; exact a4, a5⟩
      · exact h3 i E' (by omega) hE'
    · refine ⟨pk_in (s / 2) 3 (by omega), pk_in n 6 (by omega), pk_in n 6 (by omega), ih z _ ?_⟩
      have hlt : E.2.2.2.2 < aQ A 14 + 1 := by rw [hmo, hw1]; exact nI_lt (by omega) (by omega)
      have hnl : ¬ aQ A 14 + 1 ≤ E.2.2.2.2 := by rw [hmo, hw1]; exact nI_ge (by omega) (by omega)
      refine ⟨h1, fun k b c => ?_, fun i E' hi' hE' => ?_, fun i E' hi' hE' => ?_⟩
      · show qm_uA (qm_uA st.2 43 _) 44 _ k = _
        rw [uA_n c, uA_n b]
        exact h2 k b c
      · by_cases e : i = n
        · subst e
          rw [hg] at hE'
          cases hE'
          have hgo : kf_gone (nI s, aQ A 15 + aLn A (s / 2) 2, aQ A 14 + 1) E = true := by
            unfold kf_gone
            rw [q]
            simpa using hnl
          have hW : aWr (kf_wr1 A s) E.1 = aWr A s ++ [aQ A 14 + 1] := by rw [q]; exact qkU_s
          rw [q] at a2 a3
          refine ⟨a0, a1, ?_, ?_, ?_, a5⟩
          · rw [hW, since_snoc hlt]
            exact a2
          · rw [hW, until_snoc hnl, until_now hwp]
            refine Eq.trans upd_s ?_
            rw [a3]
          · refine Eq.trans upd_s ?_
            rw [a4]
            exact (dr_snoc_s hgo).symm
        · obtain ⟨b0, b1, b2', b3, b4, b5⟩ := h3 i E' (by omega) hE'
          exact ⟨b0, b1, b2', Eq.trans (upd_n e) b3, Eq.trans (upd_n e) b4, b5⟩
      · obtain ⟨b0, b1, b2', b3, b4, b5⟩ := h4 i E' (by omega) hE'
        have e : i ≠ n := by omega
        exact ⟨b0, b1, b2', Eq.trans (upd_n e) b3, Eq.trans (upd_n e) b4, b5⟩
/-! groups that stay -/
section
variable {A : qkA} {v : qkAns} {S S' : qm_S}
theorem cT.fr (h : cT A S) (h6 : S'.1 6 = S.1 6) (h7 : S'.1 7 = S.1 7) (h8 : S'.1 8 = S.1 8) (h37 : S'.1 37 = S.1 37) (h38 : S'.1 38 = S.1 38) : cT A S' := by
  unfold cT at h ⊢
  rw [h6, h7, h8, h37, h38]
  exact h
theorem cL.fr (h : cL A S) (hf : ∀ k, 9 ≤ k → k ≤ 19 → S'.2 k = S.2 k) : cL A S' := by
  unfold cL at h ⊢
  rw [hf 9 (by omega) (by omega), hf 10 (by omega) (by omega), hf 11 (by omega) (by omega), hf 12 (by omega) (by omega), hf 13 (by omega) (by omega), hf 14 (by omega) (by omega), hf 15 (by omega) (by omega), hf 16 (by omega) (by omega), hf 17 (by omega) (by omega), hf 18 (by omega) (by omega), hf 19 (by omega) (by omega)]
  exact h
theorem cR.fr (h : cR A S) (h1 : S'.2 1 = S.2 1) (h2 : S'.2 2 = S.2 2) (h3 : S'.2 3 = S.2 3) : cR A S' := by
  unfold cR at h ⊢
  rw [h1, h2, h3]
  exact h
theorem cS.fr (h : cS A S) (h4 : S'.2 4 = S.2 4) (h5 : S'.2 5 = S.2 5) (h20 : S'.2 20 = S.2 20) (h21 : S'.2 21 = S.2 21) : cS A S' := by
  unfold cS at h ⊢
  rw [h4, h5, h20, h21]
  exact h
theorem cD.fr (h : cD A S) (h1 : ∀ k, 22 ≤ k → k ≤ 34 → S'.1 k = S.1 k) (h2 : ∀ k, 23 ≤ k → k ≤ 36 → S'.2 k = S.2 k) : cD A S' := by
  unfold cD at h ⊢
  rw [h1 22 (by omega) (by omega), h1 24 (by omega) (by omega), h1 29 (by omega) (by omega), h1 34 (by omega) (by omega), h2 23 (by omega) (by omega), h2 25 (by omega) (by omega), h2 26 (by omega) (by omega), h2 27 (by omega) (by omega), h2 28 (by omega) (by omega), h2 30 (by omega) (by omega), h2 31 (by omega) (by omega), h2 32 (by omega) (by omega), h2 33 (by omega) (by omega), h2 35 (by omega) (by omega), h2 36 (by omega) (by omega)]
  exact h
theorem cE.fr (h : cE A S) (h1 : S'.1 39 = S.1 39) (hf : ∀ k, 40 ≤ k → k ≤ 51 → S'.2 k = S.2 k) : cE A S' := ⟨h1.trans h.1, fun e E hE => (h.2 e E hE).fr hf⟩
theorem cB.fr (h : cB A S) (h1 : S'.1 85 = S.1 85) (h2 : ∀ k, 86 ≤ k → k ≤ 91 → S'.2 k = S.2 k) : cB A S' := by
  unfold cB at h ⊢
  rw [h1, h2 86 (by omega) (by omega), h2 87 (by omega) (by omega), h2 88 (by omega) (by omega), h2 89 (by omega) (by omega), h2 90 (by omega) (by omega), h2 91 (by omega) (by omega)]
  exact h
theorem cA.fr (h : cA v S) (h1 : ∀ k, 75 ≤ k → k ≤ 83 → S'.1 k = S.1 k) (h77 : S'.2 77 = S.2 77) (h84 : S'.2 84 = S.2 84) : cA v S' := by
  unfold cA at h ⊢
  rw [h1 75 (by omega) (by omega), h1 76 (by omega) (by omega), h1 78 (by omega) (by omega), h1 79 (by omega) (by omega), h1 80 (by omega) (by omega), h1 81 (by omega) (by omega), h1 82 (by omega) (by omega), h1 83 (by omega) (by omega), h77, h84]
  exact h
end
