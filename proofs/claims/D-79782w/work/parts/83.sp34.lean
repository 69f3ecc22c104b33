/-! SP 34: all data as they are -/
set_option maxRecDepth 100000
def kf_anrows (A : qkA) (k : Nat) : List qkRow := (aRow A (kf_sno A k)).filter (fun r => kf_all (kf_own A (nI k)) r)
def kf_anew (A : qkA) : List qkV := (kf_walk A (kf_anrows A) (aSeat A).length).take (aQ A 10).toNatClampNeg
section
variable {g : qh_G} {L : Nat → Nat} {J h : qc_H} {A : qkA} {c : Nat}
/-- a seat's rows, by its conditions -/
theorem kt_anseat {al k s : Nat} {rls : List Nat} {K : qc_H → Nat → Prop} (R : qkRep g L J h A) (hal : h al = some (.inr rls)) (halF : qkF L al) (halJ : J al = none) (hrl : rls.length ≤ 3) (hk : (aSeat A)[k]? = some (nI s)) (hs : s < 6) (hcl : (aCond A).length ≤ 4) (hok : ∀ cd ∈ aCond A, qkOk cd) (hr12 : (aRow A s).length ≤ 12) (hc : 560 ≤ c)
    (hkk : ∀ J' h' w, qkJw h J J' → qkRep g L J' h' A → h' al = some (.inr (rls ++ [w])) → J' al = none → h w = none → qkF L w → qkR (isRow g J') h' w ((aRow A s).filter (fun r => kf_all (kf_own A (nI k)) r)) → qkFx L (fun a => a = al) h h' → (∀ a, h' a = none → h a = none) → ∀ c', c - 560 ≤ c' → K h' c') :
    eN h c 13 11 [.int 0, .null, .null, .null, .null, .int 0, .int 0, .int 0, .int 0, .int 0, .null] (fun w31 h32 c33 => eK c33 (fun c35 k34 => T_X14_init g w31 (L 0) (nI k) h32 k34 (fun h36 => eR h36 w31 13 1 (fun v37 => eR h36 v37 6 2 (fun v38 => eP h36 w31 13 4 (.ref v38) (fun h39 => eC h39 w31 13 (eK c35 (fun c41 k40 => T_X14_filter g w31 h39 k40 (fun h42 => eR h42 w31 13 4 (fun v43 => eAd g h42 al v43 c41 (fun h44 c45 => K h44 c45))))))))))) := by
  refine ⟨c - 12, by omega, fun w hw => ?_⟩
  have hwF := R.fresh hw
  have hwJ := R.Jn hw
  have R2 := R.other (e := .inl (.inr (13, [.int 0, .null, .null, .null, .null, .int 0, .int 0, .int 0, .int 0, .int 0, .null]))) hwF hwJ
  have hw2 : (qc_up h w (.inl (.inr (13, [.int 0, .null, .null, .null, .null, .int 0, .int 0, .int 0, .int 0, .int 0, .null]))) : qc_H) w = some _ := qc_up_s
  have up0 : ∀ a, (qc_up h w (.inl (.inr (13, [.int 0, .null, .null, .null, .null, .int 0, .int 0, .int 0, .int 0, .int 0, .null]))) : qc_H) a = none → h a = none := fun a z => by
    by_cases q : a = w
    · rw [q]; exact hw
    · rw [qc_up_n q] at z; exact z
  have hne : al ≠ w := fun z => by rw [z, hw] at hal; cases hal
  have F2 : qkFx L (fun _ => False) h (qc_up h w (.inl (.inr (13, [.int 0, .null, .null, .null, .null, .int 0, .int 0, .int 0, .int 0, .int 0, .null])))) := fun a _ _ hn => qc_up_n (fun z => hn (by rw [z]; exact hw))
  change eK (c - 12) (fun c35 k34 => T_X14_init g w (L 0) (nI k) (qc_up h w (.inl (.inr (13, [.int 0, .null, .null, .null, .null, .int 0, .int 0, .int 0, .int 0, .int 0, .null])))) k34 _)
  generalize qc_up h w (.inl (.inr (13, [.int 0, .null, .null, .null, .null, .int 0, .int 0, .int 0, .int 0, .int 0, .null]))) = h2 at R2 hw2 up0 F2 ⊢
  refine ek 160 (by omega) (kt_seatInit R2 hw2 hwF hwJ hk hs hcl (Nat.le_refl _) fun J3 h3 ol sl rl3 k3 R3 hw3 ho3 hs3 hr3 hrn hrF hrJ hwJ3 F3 => ?_)
  have F13 : qkFx L (fun _ => False) h h3 := fx_fresh F2 F3 hw
  have k13 : qkJw h J J3 := qkJw.rf.tr k3 up0
  have up3 : ∀ a, h3 a = none → h a = none := fun a z => up0 a (hd_of R3 F3 (fun b q => by rw [q, hw3]; intro z; cases z) a z)
  refine ⟨_, _, hw3, rfl, _, _, R3.src hs, rfl, _, hw3, by simp, ?_⟩
  have R4 := R3.other (e := qkSt L s ol sl (L (22 + s)) (kf_sv0 (nI k))) hwF hwJ3
  have hw4 : (qc_up h3 w (qkSt L s ol sl (L (22 + s)) (kf_sv0 (nI k))) : qc_H) w = some _ := qc_up_s
  have F4 : qkFx L (fun a => a = w) h3 (qc_up h3 w (qkSt L s ol sl (L (22 + s)) (kf_sv0 (nI k)))) := qkFx.up rfl
  have eset : (.inl (.inr (13, [Value.int (kf_sv0 (nI k) 0), .ref (L (16 + s)), .ref ol, .ref sl, .ref rl3, .int (kf_sv0 (nI k) 5), .int (kf_sv0 (nI k) 6), .int (kf_sv0 (nI k) 7), .int (kf_sv0 (nI k) 8), .int (kf_sv0 (nI k) 9), .ref (L 0)].set 4 (.ref (L (22 + s))))) : qc_E) = qkSt L s ol sl (L (22 + s)) (kf_sv0 (nI k)) := rfl
  rw [eset]
  have F14 := fx_fresh F13 F4 hw
  generalize qc_up h3 w (qkSt L s ol sl (L (22 + s)) (kf_sv0 (nI k))) = h4 at R4 hw4 F14 ⊢
  refine ⟨⟨_, hw4⟩, ek 360 (by omega) (kt_filter R4 hw4 hwF hwJ3 ho3 (fun cd hcd => hok cd (List.mem_filter.mp hcd).1) (R4.rows hs) hr12 (Nat.le_refl _) fun h5 w5 R5 hw5 hw5F hw5J hse5 hr5 F5 => ?_)⟩
  have F15 := fx_fresh F14 F5 hw
  have hal5 : h5 al = some (.inr rls) := F15.at halF (fun z => z) hal
  have halJ5 : J3 al = none := k13.at R5.jh (by rw [hal]; intro z; cases z) halJ hal5
  obtain ⟨xs, x1, x2, x3⟩ := hr5
  have hne5 : w5 ≠ al := fun z => by
    have := F14.at halF (fun z => z) hal
    rw [z, this] at hw5
    cases hw5
  have up5 : ∀ a, h5 a = none → h a = none := hd_of R5 F15 (fun a z => z.elim)
  have hw50 : h w5 = none := by
    apply Classical.byContradiction
    intro q
    have := F14 w5 hw5F (fun z => z) q
    rw [hw5] at this
    exact q this.symm
  refine ⟨_, _, hse5, rfl, rls, _, c - 12 - 160 - 360 - (rls.length + rls.length / 2 + 11), hal5, by omega, x1, trivial, by omega, ?_⟩
  refine hkk J3 _ w5 k13 (R5.other halF halJ5) qc_up_s halJ5 hw50 hw5F ⟨xs, ?_, x2, x3⟩ (F15.le (fun a z _ => z.elim) |>.tr (qkFx.up rfl)) (fun a z => ?_) _ (by omega)
  · rw [qc_up_n hne5]
    exact x1
  · by_cases q : a = al
    · rw [q, qc_up_s] at z
      cases z
    · rw [qc_up_n q] at z
      exact up5 a z
end
