/-! SR 14: forbid; bounds kept by ask and run -/
set_option maxRecDepth 100000
section
variable {g : qh_G} {L : Nat → Nat} {m o : Nat} {fa : Nat → Nat} {h : qc_H} {A : qkA} {v : qkAns} {S : qm_S} {n k : Nat}
theorem bj_01 {r : Int32} {P J : Int64 → Prop} (h : r = 0 ∨ r = 1) (hp : P (Int32.toInt64 r)) (hJ : ∀ x, P x → J x) : (r = 0 → J (0 : Int64)) ∧ (¬ r = 0 → J (1 : Int64)) := by
  have e0 : Int32.toInt64 0 = 0 := by decide
  have e1 : Int32.toInt64 1 = 1 := by decide
  rcases h with rfl | rfl
  · rw [e0] at hp
    exact ⟨fun _ => hJ _ hp, fun z => absurd rfl z⟩
  · rw [e1] at hp
    exact ⟨fun z => absurd z (by decide), fun _ => hJ _ hp⟩
/-- the law's look at both, a truth value told -/
def tlF (g : qh_G) (m o : Nat) (r15 : Int32) (XX K0 : qc_H → Prop) (r23 : Int32) (h24 : qc_H) : Prop := eC h24 m 7 (T8_thrown g m h24 (fun r25 h26 => (r25 = r15 → (¬ r15 = 0 → XX h26) ∧ (r15 = 0 → eLL g.2.2.2.1 h26 o 0 (fun v29 => ∀ J217 : Int64 → Prop, (∀ (x218 : Int64), (((lg_cmp v29 x218) = 0 → XX h26) ∧ (¬ (lg_cmp v29 x218) = 0 → K0 h26)) → J217 x218) → (r23 = 0 → J217 ((0 : Int64))) ∧ (¬ r23 = 0 → J217 ((1 : Int64)))))) ∧ (¬ r25 = r15 → K0 h26)))
theorem tl_okF {e x b : Int32} {XX K0 : qc_H → Prop} (G : lG L m o fa) (C : lC g L m o fa h A v S e x) (he : S.1 0 = e) (hb : e = 0 → b = x) (h01 : x = 0 ∨ x = 1) (hk : ∀ h', lC g L m o fa h' A v S e x → XX h') : tlF g m o e XX K0 b h := by
  have C0 := C
  obtain ⟨J, f, R, V, t, ho, hx⟩ := C
  refine ⟨⟨_, t.1⟩, fa, S, t, fun h' t' f' => ?_⟩
  have C' := lC.twin G C0 t' f'
  have hf : f_X8_thrown S = e := he
  rw [hf]
  refine ⟨fun _ => ⟨fun _ => hk h' C', fun z => ?_⟩, fun z => absurd rfl z⟩
  have C2 := C'
  obtain ⟨J2, f2, R2, V2, t2, ho2, hx2⟩ := C'
  refine ⟨1, f2, ho2, pk_in 0 1 (by omega), ?_⟩
  have e1 : f2 (0 : Int32).toNatClampNeg = Int32.toInt64 b := by rw [hb z]; exact hx2 z
  rw [e1]
  intro J217 hJ
  refine bj_01 (P := fun x218 => ((lg_cmp (Int32.toInt64 b) x218) = 0 → XX h') ∧ (¬ (lg_cmp (Int32.toInt64 b) x218) = 0 → K0 h')) (by rw [hb z]; exact h01) ?_ hJ
  have e2 : lg_cmp (Int32.toInt64 b) (Int32.toInt64 b) = 0 := by
    unfold lg_cmp
    rw [if_neg (Int64.lt_irrefl), if_pos rfl]
  exact ⟨fun _ => hk h' C2, fun q => absurd e2 q⟩
theorem wb_forbid {a b c : Int32} (h : qkWb k A) : qkWb k (kf_forbid A a b c).2.2 := by
  unfold kf_forbid
  repeat' split
  all_goals exact h
theorem fb_01 {a t d : Int32} (hi : iF A) : (kf_forbid A a t d).2.1 = 0 ∨ (kf_forbid A a t d).2.1 = 1 := by
  unfold kf_forbid
  by_cases c1 : a < 0 ∨ ¬ a < 6
  · rw [if_pos c1]
    exact Or.inl rfl
  rw [if_neg c1]
  by_cases c2 : t < 0 ∨ ¬ t < 3
  · rw [if_pos c2]
    exact Or.inl rfl
  rw [if_neg c2]
  obtain ⟨s, hs, rfl⟩ := ix_of 6 (by decide) (fun z => c1 (Or.inl z)) (by apply Classical.byContradiction; intro z; exact c1 (Or.inr z))
  obtain ⟨t, ht, rfl⟩ := ix_of 3 (by decide) (fun z => c2 (Or.inl z)) (by apply Classical.byContradiction; intro z; exact c2 (Or.inr z))
  show aFb A _ _ = 0 ∨ aFb A _ _ = 1
  rw [nI_clamp (by omega), nI_clamp (by omega)]
  exact hi s hs t ht
theorem cs_forbid {a1 a2 a3 : Int32} {k : Nat} {K : Int32 → qc_H → Prop} {KX : String → qc_H → Prop} (G : lG L m o fa) (hZ : lZ g L m o fa n h) (hn : n < 64) (hd : a3 = 0 ∨ a3 = 1) (hk : 2000 ≤ k) (hK : ∀ r15 h16, (∀ XX K0 : qc_H → Prop, (∀ h2, lZ g L m o fa (n + 1) h2 → XX h2) → eC h16 m 7 (T8_forbid g m a1 a2 a3 h16 (tlF g m o r15 XX K0))) → K r15 h16) : T_X0_forbid g (L 0) a1 a2 a3 o h k K KX := by
  obtain ⟨A, v, S, ⟨J, f, R, V, t, ho, _⟩, hC, hI, hW⟩ := hZ
  have h01 := fb_01 (a := a1) (t := a2) (d := a3) hI.2.2.1
  have tw8 : ∀ h1, lC g L m o fa h1 (kf_forbid A a1 a2 a3).2.2 v S (kf_forbid A a1 a2 a3).1 (kf_forbid A a1 a2 a3).2.1 → ∀ XX K0 : qc_H → Prop, (∀ h2, lZ g L m o fa (n + 1) h2 → XX h2) → eC h1 m 7 (T8_forbid g m a1 a2 a3 h1 (tlF g m o (kf_forbid A a1 a2 a3).1 XX K0)) := by
    intro h1 C1 XX K0 hX
    have C3 := C1
    obtain ⟨J1, f1, R1, V1, t1, ho1, _⟩ := C3
    exact ⟨⟨_, t1.1⟩, fa, S, t1, km_forbid hd hC hI.2.2.1 (fun b S' e0 eb hC' h2 t2 f2 => tl_okF G (C1.twin G t2 f2) e0 eb h01 fun h3 c3 => hX h3 ⟨_, _, _, c3.weak, hC', (ki_forbid hd hI).le (by omega) (by omega), wb_le (wb_forbid hW) (by omega)⟩)⟩
  unfold T_X0_forbid
  refine ⟨⟨_, R.x⟩, ek 2000 hk (kt_forbid R hd hI.2.2.1 (by omega) fun J' h' hJ hF R' => ?_)⟩
  obtain ⟨V', t', ho'⟩ := lC.fr G V t ho hJ.1 hF R' la_forbid
  refine ⟨fun e0 J9 hJ9 => bj_01 (P := fun x10 => eLW g.2.2.2.1 h' o 0 x10 (fun h11 => K 0 h11)) h01 (lC.put G R' V' t' ho' (fun h2 c2 => ?_)) hJ9, fun i E hE ei => ?_⟩
  · have := tw8 h2 (by rw [e0]; exact c2)
    rw [e0] at this
    exact hK 0 h2 this
  · match i, hE with
    | 0, hE =>
      cases hE
      have := tw8 h' ⟨J', f, R', V', t', ho', fun z => absurd (ei.symm.trans z) (by decide)⟩
      rw [ei] at this
      exact ⟨rfl, fun _ => hK 1 h' this⟩
    | i + 1, hE => cases hE
end
section
variable {k : Nat} {A : qkA}
theorem wb_scan {src : Nat} {sent : List qkC} {sv f : Nat → Int32} {b d : Int32} (h : qkWb k A) : qkWb k (kf_scan A src sent sv f b d).1 := by
  have tm : qkTm A (kf_ship A src sent [] (upd sv 6 0) f b d (-1) []).2.1 := ship_tm
  have w := wb_tm h tm
  unfold kf_scan
  split
  · split
    · exact w
    · exact w
  · exact w
theorem wb_bl {src : Nat} {sent : List qkC} {ks : List Int32} {col b d most : Int32} : ∀ {n k0 : Nat} {A : qkA} {f sv : Nat → Int32} {rows : List qkRow}, qkWb k A → qkWb k (kf_bl src sent ks col b d most n k0 A f sv rows).2.1 := by
  intro n
  induction n with
  | zero => intro k0 A f sv rows h; exact h
  | succ n ih =>
    intro k0 A f sv rows h
    have tm : qkTm A (kf_bship src sent ks col b d k0 A f sv rows).2.1 := ship_tm
    rw [kf_bl]
    split
    · split
      · exact ih (wb_tm h tm)
      · exact wb_tm h tm
    · exact wb_tm h tm
theorem wb_bind {src osrc : Nat} {sent : List qkC} {sv osv : Nat → Int32} {orows : List qkRow} {l : qkC} {b d : Int32} {f : Nat → Int32} (h : qkWb k A) : qkWb k (kf_bind A src osrc sent sv osv orows l b d f).2.1 := by
  unfold kf_bind
  split
  · exact h
  · split
    · exact h
    · split
      · exact h
      · exact wb_bl h
theorem wb_take {n i : Nat} {ss : Nat → qkSeat} {fresh b d : Int32} {f : Nat → Int32} (h : qkWb k A) : qkWb k (kf_take A n ss i fresh b d f).1 := by
  unfold kf_take kf_pre
  dsimp only
  split
  · split
    · exact h
    · exact h
  · split
    · exact wb_scan h
    · split
      · exact h
      · split
        · exact wb_scan (wb_bind h)
        · exact wb_bind h
theorem wb_takes {n : Nat} {fresh b d : Int32} : ∀ {m : Nat} {A : qkA} {ss : Nat → qkSeat} {f : Nat → Int32} {tk : List Int32}, qkWb k A → qkWb k (kf_takes n fresh b d m A ss f tk).1 := by
  intro m
  induction m with
  | zero => intro A ss f tk h; exact h
  | succ m ih =>
    intro A ss f tk h
    rw [kf_takes]
    split
    · exact h
    · exact ih (wb_take h)
theorem wb_askt {a b : Int32} (h : qkWb k A) : qkWb k (kf_askt A a b).1 := wb_takes h
theorem done_la {f : Nat → Int32} : aLa (kf_done A f).2 = aLa A := by
  unfold kf_done
  split
  · split
    · exact la_add
    · exact la_add
  · split
    · split
      · exact la_change
      · exact la_change
    · split
      · exact la_remove
      · exact la_remove
theorem isd_la {f : Nat → Int32} {l : Nat} : ∀ {m : Nat} {own : Option qkDone} {fa : Nat → Int32} {A : qkA}, aLa (kf_isd f l m own fa A).2.2 = aLa A
  | 0, own, fa, A => by rw [kf_isd]
  | m + 1, some d, fa, A => by
    have t : aLa (kf_attempt A l (aQ A 15) (-1) fa).2.1 = aLa A := qkTm.attempt.tk.2.2.2.2.2.2.2.2.2.2
    rw [kf_isd]
    split
    · exact t
    · exact isd_la.trans t
  | m + 1, none, fa, A => by
    have t : aLa (kf_attempt A l (aQ A 15) (-1) fa).2.1 = aLa A := qkTm.attempt.tk.2.2.2.2.2.2.2.2.2.2
    rw [kf_isd]
    split
    · exact done_la.trans t
    · split
      · exact isd_la.trans t
      · exact isd_la.trans (done_la.trans t)
theorem back_la {d : qkDone} : aLa (kf_back A d) = aLa A := by
  unfold kf_back kf_redo kf_undo
  repeat' split
  all_goals rfl
theorem backs_la : ∀ {ds : List qkDone} {A : qkA}, aLa (kf_backs ds A) = aLa A
  | [], A => rfl
  | d :: t, A => (back_la (A := kf_backs t A) (d := d)).trans backs_la
theorem backs_wb : ∀ {ds : List qkDone} {A : qkA}, qkWb k A → qkWb (k + ds.length) (kf_backs ds A)
  | [], A, h => h
  | d :: t, A, h => back_wb (A := kf_backs t A) (d := d) (backs_wb (ds := t) h)
theorem runF_la : ∀ {fs : List (Nat → Int32)} {j : Nat} {ds : List qkDone} {A : qkA}, aLa (kf_runF fs j ds A).2.2 = aLa A
  | [], j, ds, A => rfl
  | f :: t, j, ds, A => by
    rw [kf_runF]
    split
    · exact runF_la.trans isd_la
    · exact isd_la
theorem runF_wb : ∀ {fs : List (Nat → Int32)} {k j : Nat} {ds : List qkDone} {A : qkA}, qkWb k A → qkWb (k + fs.length) (kf_runF fs j ds A).2.2
  | [], k, j, ds, A, h => h
  | f :: t, k, j, ds, A, h => by
    have w : qkWb (k + 1) (kf_isDone A f).2.2 := isd_wb (fun _ => h) (wb_le h (Nat.le_succ _))
    rw [kf_runF]
    split
    · exact wb_le (runF_wb w) (by rw [List.length_cons]; omega)
    · exact wb_le w (by rw [List.length_cons]; omega)
theorem la_run : aLa (kf_runB A).2.2 = aLa A := by
  unfold kf_runB
  split
  · rfl
  · show aLa (sBun _ []) = aLa A
    split
    · exact runF_la
    · exact backs_la.trans runF_la
theorem wb_run {T M : Nat} (hi : qkI T M A) (hT : T + 480 ≤ 2 ^ 20) (hM : M + 8 ≤ 2 ^ 20) (h : qkWb k A) : qkWb (k + 8) (kf_runB A).2.2 := by
  obtain ⟨_, _, g3⟩ := run_ki hi hT hM
  have h4 := hi.2.2.2.2.1.1
  have w : qkWb (k + 4) (kf_runF (aBun A) 0 [] A).2.2 := wb_le (runF_wb h) (by omega)
  unfold kf_runB
  split
  · exact wb_le h (by omega)
  · show qkWb (k + 8) (if (kf_runF (aBun A) 0 [] A).1 = -1 then (kf_runF (aBun A) 0 [] A).2.2 else kf_backs (kf_runF (aBun A) 0 [] A).2.1 (kf_runF (aBun A) 0 [] A).2.2)
    split
    · exact wb_le w (by omega)
    · exact wb_le (backs_wb w) (by omega)
end
