/-! SP 3 (printed in part): boxes; constructors of what stays; goTo, written -/
set_option maxRecDepth 100000
theorem upd_s {f : Nat → Int32} {k : Nat} {v : Int32} : upd f k v k = v := by unfold upd; simp
theorem upd_n {f : Nat → Int32} {k j : Nat} {v : Int32} (h : j ≠ k) : upd f k v j = f j := by unfold upd; simp [h]
section
variable {g : qh_G} {L : Nat → Nat} {J h : qc_H} {A : qkA} {c : Nat}
theorem qkRep.box {a : Nat} {fs : List Value} (R : qkRep g L J h A) (ha : h a = some (.inl (.inr (17, fs)))) : qkF L a := by
  intro n hn hz
  subst hz
  have : n = 0 ∨ n = 1 ∨ n = 2 ∨ n = 3 ∨ (∃ s, s < 6 ∧ n = 4 + s) ∨ (∃ s, s < 3 ∧ n = 10 + s) ∨ (∃ s, s < 3 ∧ n = 13 + s) ∨ (∃ s, s < 6 ∧ n = 16 + s) ∨ (∃ s, s < 6 ∧ n = 22 + s) ∨ (∃ s, s < 6 ∧ n = 28 + s) ∨ n = 34 ∨ n = 35 ∨ n = 36 ∨ n = 37 ∨ n = 38 ∨ n = 39 ∨ n = 40 := by
    by_cases h0 : n < 4
    · omega
    by_cases h1 : n < 10
    · exact Or.inr (Or.inr (Or.inr (Or.inr (Or.inl ⟨n - 4, by omega, by omega⟩))))
    by_cases h2 : n < 13
    · exact Or.inr (Or.inr (Or.inr (Or.inr (Or.inr (Or.inl ⟨n - 10, by omega, by omega⟩)))))
    by_cases h3 : n < 16
    · exact Or.inr (Or.inr (Or.inr (Or.inr (Or.inr (Or.inr (Or.inl ⟨n - 13, by omega, by omega⟩))))))
    by_cases h4 : n < 22
    · exact Or.inr (Or.inr (Or.inr (Or.inr (Or.inr (Or.inr (Or.inr (Or.inl ⟨n - 16, by omega, by omega⟩)))))))
    by_cases h5 : n < 28
    · exact Or.inr (Or.inr (Or.inr (Or.inr (Or.inr (Or.inr (Or.inr (Or.inr (Or.inl ⟨n - 22, by omega, by omega⟩))))))))
    by_cases h6 : n < 34
    · exact Or.inr (Or.inr (Or.inr (Or.inr (Or.inr (Or.inr (Or.inr (Or.inr (Or.inr (Or.inl ⟨n - 28, by omega, by omega⟩)))))))))
    omega
  have e : ∀ {x : qc_E}, h (L n) = some x → x = .inl (.inr (17, fs)) := fun hx => by rw [ha] at hx; exact (Option.some.inj hx).symm
  rcases this with rfl | rfl | rfl | rfl | ⟨s, hs, rfl⟩ | ⟨s, hs, rfl⟩ | ⟨s, hs, rfl⟩ | ⟨s, hs, rfl⟩ | ⟨s, hs, rfl⟩ | ⟨s, hs, rfl⟩ | rfl | rfl | rfl | rfl | rfl | rfl | rfl
  · cases e R.x
  · cases e R.lines
  · cases e R.srcs
  · cases e R.fbs
  · cases e (R.fb hs)
  · cases e (R.line hs)
  · have := e (R.store hs)
    simp at this
    omega
  · cases e (R.src hs)
  · obtain ⟨xs, h1, -⟩ := R.rows hs; cases e h1
  · obtain ⟨xs, h1, -⟩ := R.wr hs; cases e h1
  · obtain ⟨xs, h1, -⟩ := R.msgs; cases e h1
  · obtain ⟨xs, h1, -⟩ := R.cache; cases e h1
  · obtain ⟨xs, h1, -⟩ := R.seats; cases e h1
  · obtain ⟨xs, h1, -⟩ := R.links; cases e h1
  · obtain ⟨xs, h1, -⟩ := R.conds; cases e h1
  · obtain ⟨xs, h1, -⟩ := R.outs; cases e h1
  · obtain ⟨xs, h1, -⟩ := R.bun; cases e h1
/-- a box is made, or found -/
theorem kt_box {v : Int32} {K : Nat → qc_H → Nat → Prop} (R : qkRep g L J h A) (hc : 2 ≤ c) (hk : ∀ a J', qkJs J J' → qkRep g L J' (qc_up h a (.inl (.inr (17, [.int v])))) A → qkFr L h (qc_up h a (.inl (.inr (17, [.int v])))) → isInt J' a v → K a (qc_up h a (.inl (.inr (17, [.int v])))) (c - 2)) : eBx h v c K := by
  refine ⟨c - 2, by omega, fun a ha => ?_⟩
  have hF : qkF L a := ha.elim R.fresh R.box
  have hJ : J a = none ∨ J a = some (.inl (.inr (17, [.int v]))) := by
    cases hz : J a with
    | none => exact Or.inl rfl
    | some e =>
      rcases ha with q | q
      · rw [R.jh _ _ hz] at q; cases q
      · rw [R.jh _ _ hz] at q; exact Or.inr q
  exact hk a _ (qkJs.up hJ) (R.keep hF (Or.inr ⟨v, rfl⟩) hJ) (qkFr.new ha) qc_up_s
theorem ki_X9 {w : Nat} {v0 : Int32} {v1 : Nat} {K : qc_H → Prop} (hk : K (qc_up h w (.inl (.inr (8, [.int v0, .ref v1]))))) : T_X9_init g w v0 v1 (qc_up h w (.inl (.inr (8, [.int 0, .null])))) K := by
  refine ⟨_, qc_up_s, by simp, ⟨_, qc_up_s, by simp, ?_⟩⟩
  simp only [qc_up_up, List.set]
  exact hk
theorem ki_X10 {w : Nat} {v0 : Int32} {v1 : Int32} {v2 : Int32} {K : qc_H → Prop} (hk : K (qc_up h w (.inl (.inr (9, [.int v0, .int v1, .int v2]))))) : T_X10_init g w v0 v1 v2 (qc_up h w (.inl (.inr (9, [.int 0, .int 0, .int 0])))) K := by
  refine ⟨_, qc_up_s, by simp, ⟨_, qc_up_s, by simp, ⟨_, qc_up_s, by simp, ?_⟩⟩⟩
  simp only [qc_up_up, List.set]
  exact hk
theorem ki_X11 {w : Nat} {v0 : Int32} {v1 : Int32} {v2 : Int32} {v3 : Int32} {K : qc_H → Prop} (hk : K (qc_up h w (.inl (.inr (10, [.int v0, .int v1, .int v2, .int v3]))))) : T_X11_init g w v0 v1 v2 v3 (qc_up h w (.inl (.inr (10, [.int 0, .int 0, .int 0, .int 0])))) K := by
  refine ⟨_, qc_up_s, by simp, ⟨_, qc_up_s, by simp, ⟨_, qc_up_s, by simp, ⟨_, qc_up_s, by simp, ?_⟩⟩⟩⟩
  simp only [qc_up_up, List.set]
  exact hk
theorem ki_X12 {w : Nat} {v0 : Int32} {v1 : Int32} {v2 : Int32} {v3 : Int32} {K : qc_H → Prop} (hk : K (qc_up h w (.inl (.inr (11, [.int v0, .int v1, .int v2, .int v3]))))) : T_X12_init g w v0 v1 v2 v3 (qc_up h w (.inl (.inr (11, [.int 0, .int 0, .int 0, .int 0])))) K := by
  refine ⟨_, qc_up_s, by simp, ⟨_, qc_up_s, by simp, ⟨_, qc_up_s, by simp, ⟨_, qc_up_s, by simp, ?_⟩⟩⟩⟩
  simp only [qc_up_up, List.set]
  exact hk
theorem ki_X13 {w : Nat} {v0 : Int32} {v1 : Int32} {K : qc_H → Prop} (hk : K (qc_up h w (.inl (.inr (12, [.int v0, .int v1]))))) : T_X13_init g w v0 v1 (qc_up h w (.inl (.inr (12, [.int 0, .int 0])))) K := by
  refine ⟨_, qc_up_s, by simp, ⟨_, qc_up_s, by simp, ?_⟩⟩
  simp only [qc_up_up, List.set]
  exact hk
/-- an object that stays is made -/
theorem kt_keep {a : Nat} {e : va_E} (R : qkRep g L J h A) (ha : h a = none) (hi : qkIm (.inl e) := by first | trivial | exact ⟨_, rfl⟩ | exact ⟨by simp, by simp⟩) : qkJs J (qc_up J a (.inl e)) ∧ qkRep g L (qc_up J a (.inl e)) (qc_up h a (.inl e)) A ∧ qkFr L h (qc_up h a (.inl e)) := ⟨qkJs.up (Or.inl (R.Jn ha)), R.keep (R.fresh ha) (Or.inl (R.freshG ha)) (Or.inl (R.Jn ha)) hi, qkFr.new (Or.inl ha)⟩
theorem kt_goTo {t : Int32} {K : qc_H → Prop} (R : qkRep g L J h A) (hk : ∀ h', qkRep g L J h' (kf_goTo A t) → qkFr L h h' → K h') : T_X1_goTo g (L 0) t h K := by
  unfold T_X1_goTo
  refine kx_put R (by omega) rfl fun h1 R1 F1 => ?_
  have hlen := R.msgs.choose_spec.2.2
  have hlenC := R.cache.choose_spec.2.2
  refine ⟨_, _, R1.x, rfl, rl_size R1.msgs fun X hX => ?_⟩
  have e1 : ∀ k : Nat, nI k + (-1) = nI k - 1 := fun k => by rw [Int32.sub_eq_add_neg]
  have key : ∀ k h', k ≤ (aMsg A).length → qkRep g L J h' (sCache (sMsg (sQ A (upd (aQ A) 15 t)) ((aMsg A).take k ++ ((aMsg A).drop k).filter (fun m => decide (t < m.2.1)))) ((aCache A).filter (fun e => ((aMsg A).drop k).all (fun m => !(decide (¬ t < m.2.1) && kf_gone m e))))) → qkFr L h h' → X (nI k - 1) h' := by
    intro k
    induction k with
    | zero =>
      intro h' _ R' F'
      refine hX _ _ ⟨fun _ => ?_, fun z => absurd (by decide) z⟩
      rw [List.take_zero, List.nil_append, List.drop_zero] at R'
      generalize hcs : (aCache A).filter (fun e => (aMsg A).all (fun m => !(decide (¬ t < m.2.1) && kf_gone m e))) = cs at R'
      have hlc : cs.length ≤ 20000 := by rw [← hcs]; exact Nat.le_trans (List.length_filter_le _ _) hlenC
      refine ⟨_, _, R'.x, rfl, rl_size R'.cache fun X hX => ?_⟩
      have key2 : ∀ k h', k ≤ cs.length → qkRep g L J h' (sCache (sMsg (sQ A (upd (aQ A) 15 t)) ((aMsg A).filter (fun m => decide (t < m.2.1)))) (cs.take k ++ (cs.drop k).filter (fun e => decide (t - e.2.2.2.1 ≤ aLn A (e.1 / 2) 5)))) → qkFr L h h' → X (nI k - 1) h' := by
        intro k
        induction k with
        | zero =>
          intro h' _ R' F'
          refine hX _ _ ⟨fun _ => hk h' ?_ F', fun z => absurd (by decide) z⟩
          unfold kf_goTo
          rw [hcs]
          rw [List.take_zero, List.nil_append, List.drop_zero] at R'
          exact R'
        | succ k ih =>
          intro h' hkl R' F'
          rw [nI_pred]
          have hkl' : k < cs.length := by omega
          refine hX _ _ ⟨fun z => absurd z (nI_pos (by omega)), fun _ => ?_⟩
          refine ⟨_, _, R'.x, rfl, rl_get R'.cache rfl (fl_get hkl') fun y hy => ?_⟩
          obtain ⟨cl, rl, y0, y1, y2, y3⟩ := hy
          refine ⟨⟨_, R'.jh _ _ y1⟩, _, t, R'.x, rfl, _, _, R'.jh _ _ y1, rfl, _, _, R'.jh _ _ y1, rfl, _, _, R'.src y0, rfl, _, _, R'.line (by omega), rfl, fun z => ?_, fun z => ?_⟩
          · rw [e1]
            refine ih h' (by omega) ?_ F'
            have hp : (fun e : qkEnt => decide (t - e.2.2.2.1 ≤ aLn A (e.1 / 2) 5)) cs[k] = true := by simpa using z
            rw [fl_keep hkl' hp] at R'
            exact R'
          · refine ⟨_, _, R'.x, rfl, rl_rem R'.cache rfl (fl_get hkl') fun z' xs _ hx => ?_⟩
            rw [e1]
            have hp : (fun e : qkEnt => decide (t - e.2.2.2.1 ≤ aLn A (e.1 / 2) 5)) cs[k] = false := by simpa using z
            have hx' : qkL (isEnt g L J) xs (cs.take k ++ (cs.drop k).filter (fun e => decide (t - e.2.2.2.1 ≤ aLn A (e.1 / 2) 5))) := by
              rw [fl_gone hkl' hp, ← fl_drop hkl']
              exact hx
            exact ih _ (by omega) (R'.pCache hx' (Nat.le_trans fl_len hlc)) (F'.tr (qkFr.up (by omega)))
      exact key2 cs.length h' (by omega) (by simpa using R') F'
    | succ k ih =>
      intro h' hkl R' F'
      rw [nI_pred]
      have hkl' : k < (aMsg A).length := by omega
      refine hX _ _ ⟨fun z => absurd z (nI_pos (by omega)), fun _ => ?_⟩
      refine ⟨_, _, R'.x, rfl, rl_get R'.msgs rfl (fl_get hkl') fun y hy => ?_⟩
      have y1 : J y = some (.inl (.inr (9, [.int (aMsg A)[k].1, .int (aMsg A)[k].2.1, .int (aMsg A)[k].2.2]))) := hy
      have hd : (aMsg A).drop k = (aMsg A)[k] :: (aMsg A).drop (k + 1) := List.drop_eq_getElem_cons hkl'
      refine ⟨⟨_, R'.jh _ _ y1⟩, _, _, R'.jh _ _ y1, rfl, _, t, R'.x, rfl, fun z => ?_, fun z => ?_⟩
      · rw [e1]
        refine ih h' (by omega) ?_ F'
        have hp : (fun m : qkMsg => decide (t < m.2.1)) (aMsg A)[k] = true := by simpa using z
        rw [fl_keep hkl' hp] at R'
        have hq : ((aCache A).filter (fun e => ((aMsg A).drop k).all (fun m => !(decide (¬ t < m.2.1) && kf_gone m e)))) = ((aCache A).filter (fun e => ((aMsg A).drop (k + 1)).all (fun m => !(decide (¬ t < m.2.1) && kf_gone m e)))) := by
          congr 1
          funext e
          rw [hd, List.all_cons]
          simp [z]
        rw [hq]
        exact R'
      · refine ⟨_, _, R'.x, rfl, rl_rem R'.msgs rfl (fl_get hkl') fun z' xs _ hx => ?_⟩
        have hp : (fun m : qkMsg => decide (t < m.2.1)) (aMsg A)[k] = false := by simpa using z
        have hx' : qkL (isMsg J) xs ((aMsg A).take k ++ ((aMsg A).drop k).filter (fun m => decide (t < m.2.1))) := by
          rw [fl_gone hkl' hp, ← fl_drop hkl']
          exact hx
        have R2 := R'.pMsg hx' (Nat.le_trans fl_len hlen)
        refine ⟨⟨_, R2.x⟩, kt_drop R2 hy fun h3 R3 F3 => ?_⟩
        rw [e1]
        refine ih h3 (by omega) ?_ ((F'.tr (qkFr.up (by omega))).tr F3)
        have hq : ((aCache A).filter (fun e => ((aMsg A).drop k).all (fun m => !(decide (¬ t < m.2.1) && kf_gone m e)))) = ((aCache A).filter (fun e => ((aMsg A).drop (k + 1)).all (fun m => !(decide (¬ t < m.2.1) && kf_gone m e)))).filter (fun e => !kf_gone (aMsg A)[k] e) := by
          rw [List.filter_filter]
          congr 1
          funext e
          rw [hd, List.all_cons]
          simp [z]
        rw [hq]
        exact R3
  refine key (aMsg A).length h1 (by omega) ?_ F1
  have e0 : (aCache A).filter (fun e => ((aMsg A).drop (aMsg A).length).all (fun m => !(decide (¬ t < m.2.1) && kf_gone m e))) = aCache A := by
    rw [List.filter_eq_self]
    intro a _
    simp
  rw [e0]
  simpa using R1
theorem kt_written {s : Nat} {K : qc_H → Prop} (R : qkRep g L J h A) (hs : s < 6) (hw : (aWr A s).length ≤ 600) (hm : (aMsg A).length ≤ 600) (hc : 1828 ≤ c) (hk : ∀ J' h', qkJs J J' → qkRep g L J' h' (kf_written A s) → qkFr L h h' → K h') : T_X1_written g (L 0) (L (16 + s)) h c K := by
  unfold T_X1_written
  refine ⟨_, _, R.x, rfl, ?_⟩
  refine kx_put R (by omega) rfl fun h1 R1 F1 => ?_
  refine ⟨_, _, R1.src hs, rfl, _, aQ A 14 + 1, R1.x, rfl, kt_box R1 (by omega) fun w7 J5 hJ5 R5 F5 hi => ?_⟩
  refine rl_add (R5.wr hs) qc_up_s (Or.inr (Or.inr (Or.inr (Or.inr (Or.inr (Or.inr (Or.inr rfl))))))) hi (by show (aWr A s).length + (aWr A s).length / 2 + 11 ≤ _; omega) fun xs hx => ?_
  have R8 := R5.pWr hs hx (by rw [List.length_append]; show (aWr A s).length + 1 ≤ _; omega)
  refine ⟨_, _, R8.x, rfl, ?_⟩
  refine ⟨c - 2 - ((aWr A s).length + (aWr A s).length / 2 + 11) - 4, by show c - 2 - ((aWr A s).length + (aWr A s).length / 2 + 11) = _; omega, fun w11 hw11 => ?_⟩
  have R9 := R8.other (e := .inl (.inr (9, [.int 0, .int 0, .int 0]))) (R8.fresh hw11) (R8.Jn hw11)
  refine ⟨_, _, R9.src hs, rfl, _, aQ A 15, R9.x, rfl, _, _, R9.src hs, rfl, _, aLn A (s / 2) 2, R9.line (by omega), rfl, _, aQ A 14 + 1, R9.x, rfl, ki_X10 ?_⟩
  obtain ⟨k1, k2, k3⟩ := kt_keep (e := .inr (9, [.int (nI s), .int (aQ A 15 + aLn A (s / 2) 2), .int (aQ A 14 + 1)])) R8 hw11
  refine rl_add (w := (nI s, aQ A 15 + aLn A (s / 2) 2, aQ A 14 + 1)) k2.msgs qc_up_s (Or.inr (Or.inl rfl)) qc_up_s (by show (aMsg A).length + (aMsg A).length / 2 + 11 ≤ _; omega) fun ys hy => ?_
  have R10 := k2.pMsg hy (by rw [List.length_append]; show (aMsg A).length + 1 ≤ _; omega)
  refine ⟨_, aQ A 15, R10.x, rfl, ⟨_, R10.x⟩, kt_goTo R10 fun h3 R3 F3 => ?_⟩
  exact hk _ h3 (hJ5.tr k1) R3 (((((F1.tr F5).tr (qkFr.up (by omega))).tr k3).tr (qkFr.up (by omega))).tr F3)
end
