/-! CORE 22: ship's handler of anything: what was spent is noted, and the exception goes on -/
set_option maxRecDepth 100000
theorem vx_catchAny {p : Program} {l : Launch} {e : Env} {R : Room} {s : State} {m : MethodId} {args : Array Value} {below : List Frame} {meth : Method} {c : Code} {H : Heap} {locs : List Loc} {cells slots : Nat} {Q : State → Prop} {pc : Nat} {ls : Array Slot} {rest : List Value} {E : String} {ce : Cell} {q : Addr} (x : ExceptionTableEntry) (suf : List ExceptionTableEntry) (hsplit : c.exceptionTable.toList = [] ++ x :: suf) (hx : covers x pc = true) (h0 : x.catchType = 0) (hcell : H[q]? = some ce) (hv : ce.vm = .none) (hcl : s.vm.findClass E = some ce.cls)
    (kk : W p l e R s m args below meth c H locs cells slots Q (F0 m x.handlerPc ls [.ref q])) : vx_W p l e R s m args below meth c H locs cells slots Q (F0 m pc ls rest) q := by
  intro T hT X
  obtain ⟨vm', X', st⟩ := X.thenCaughtThrough q (g := F0 m pc ls rest) rfl (Steps.refl _) (by rw [hT]; exact hcell) (by rw [hv]; rfl) (by obtain ⟨k9, h9, -⟩ := Vm.findClass_spec hcl; exact ⟨k9, h9⟩) [] x suf hsplit (fun z hz => by cases hz) hx (Or.inl h0)
  obtain ⟨t, a1, b1⟩ := kk (T.setVm vm') hT X'
  exact ⟨t, st.trans a1, b1⟩
theorem qh_fin {g : qh_G} {d c : Nat} {I : qh_I} {ls : List (Option Value)} {τ : qh_H} {Q : qh_R → qh_H → Prop} {a0 a1 l0 : Nat} {v w x9 : Int32} {fs f0 fl : List Value} {pc : Nat}
    (e : I.2.1 = cX1_ship) (ho : I.1.cls = RX1) (htab : I.2.2.2.2 = [(18, 32, 54, 0), (54, 56, 54, 0)]) (hn : 10 < I.2.2.1) (hpc : pc = 29)
    (h0 : ls[0]? = some (some (.ref a0))) (h1 : ls[1]? = some (some (.ref a1))) (h9 : ls[9]? = some (some (.int x9))) (hlen : 10 < ls.length)
    (hs : τ a1 = some (.inr (13, fs))) (hsv : fs[9]? = some (.int v)) (hx : τ a0 = some (.inr (0, f0))) (hxl : f0[12]? = some (.ref l0)) (hl : τ l0 = some (.inr (5, fl))) (hlw : fl[4]? = some (.int w))
    (hq : Q (.inr "QueryHarbor$NoAnswer") (qh_upd τ a1 (.inr (13, fs.set 9 (.int (v + (w - x9))))))) : qh_wx g d c I pc ls "QueryHarbor$NoAnswer" τ Q := by
  subst hpc
  intro p e0 s m args below meth cd lsA ws H locs cells slots mc rest q ce C hl' hc hT hP hD hS hc1 hc2 hqc hqv hqcl
  have htab' : cd.exceptionTable.toList = [] ++ (⟨18, 32, 54, 0⟩ : ExceptionTableEntry) :: [⟨54, 56, 54, 0⟩] := by
    rw [C.2.2.2.2.2.2.2.2.2.2.2.1, htab]
    rfl
  -- q among the cells that are watched, or outside
  obtain ⟨ws1, hT1, hP1, hD1, hin⟩ : ∃ ws1 : va_W, qh_T τ ws1 ∧ va_P g.2.1 qh_cl ws1 H ∧ va_D g.2.2.1 ws1 ∧ ((∃ (k : Nat) (ee : va_E), ws1[k]? = some (q, ee)) ∨ ¬ g.2.2.1 q) := by
    by_cases hA : g.2.2.1 q
    · by_cases hk : ∃ (k : Nat) (ee : va_E), ws[k]? = some (q, ee)
      · exact ⟨ws, hT, hP, hD, Or.inl hk⟩
      · have hci : qh_cl[18]? = some (RX15, qh_no, 0) := rfl
        have hcls : s.vm.findClass RX15 = some (g.2.1.1 18) := ((C.2.2.2.2.2.2.2.1.1 18 _ hci).2).1
        have hce : ce.cls = g.2.1.1 18 := Option.some.inj (hqcl.symm.trans hcls)
        refine ⟨ws ++ [(q, .inr (18, []))], fun a e' ha => ?_, fun k r hr => ?_, ⟨fun i j p1 p2 hi hj he => ?_, fun k r hr => ?_⟩, Or.inl ⟨ws.length, .inr (18, []), by simp⟩⟩
        · obtain ⟨k, hk⟩ := hT a e' ha
          exact ⟨k, by rw [List.getElem?_append_left (List.getElem?_eq_some_iff.mp hk).1]; exact hk⟩
        · by_cases hlt : k < ws.length
          · rw [List.getElem?_append_left hlt] at hr
            exact hP k r hr
          · rw [List.getElem?_append_right (by omega)] at hr
            obtain ⟨h5, h6⟩ := List.getElem?_eq_some_iff.mp hr
            have h7 : k - ws.length = 0 := by simpa using h5
            simp only [h7, List.getElem_cons_zero] at h6
            subst h6
            exact ⟨_, hci, ce, hqc, hce, hqv, fun k9 h9 => absurd h9 (Nat.not_lt_zero _)⟩
        · have key : ∀ {i : Nat} {p1 : Nat × va_E}, (ws ++ [(q, .inr (18, []))])[i]? = some p1 → (i < ws.length ∧ ws[i]? = some p1) ∨ (i = ws.length ∧ p1.1 = q) := by
            intro i p1 hi
            by_cases hlt : i < ws.length
            · rw [List.getElem?_append_left hlt] at hi
              exact Or.inl ⟨hlt, hi⟩
            · rw [List.getElem?_append_right (by omega)] at hi
              obtain ⟨h5, h6⟩ := List.getElem?_eq_some_iff.mp hi
              have h7 : i - ws.length = 0 := by simpa using h5
              simp only [h7, List.getElem_cons_zero] at h6
              exact Or.inr ⟨by omega, by rw [← h6]⟩
          rcases key hi with ⟨_, z1⟩ | ⟨z1, z1'⟩ <;> rcases key hj with ⟨_, z2⟩ | ⟨z2, z2'⟩
          · exact hD.1 i j p1 p2 z1 z2 he
          · exact absurd ⟨i, p1.2, by rw [z1, ← z2', ← he]⟩ hk
          · exact absurd ⟨j, p2.2, by rw [z2, ← z1', he]⟩ hk
          · omega
        · by_cases hlt : k < ws.length
          · rw [List.getElem?_append_left hlt] at hr
            exact hD.2 k r hr
          · rw [List.getElem?_append_right (by omega)] at hr
            obtain ⟨h5, h6⟩ := List.getElem?_eq_some_iff.mp hr
            have h7 : k - ws.length = 0 := by simpa using h5
            simp only [h7, List.getElem_cons_zero] at h6
            subst h6
            exact hA
    · exact ⟨ws, hT, hP, hD, Or.inr hA⟩

  have hts := C.2.2.2.2.2.2.1
  have hK := C.2.2.2.2.2.2.2.1
  have hcc := C.2.1.trans e
  have hown := ho ▸ C.2.2.2.2.2.1
  obtain ⟨ks, hks⟩ := hT1 _ _ hs
  obtain ⟨kx, hkx⟩ := hT1 _ _ hx
  obtain ⟨kl, hkl⟩ := hT1 _ _ hl
  refine vx_catchAny _ _ htab' rfl rfl hqc hqv hqcl ?_
  show W p g.1 e0 (qh_room d mc) s m args below meth cd H locs cells slots _ (F0 m 54 lsA [.ref q])
  refine lv_astore C.1 hcc dX1_ship_54 hl' hn rfl (fun ls9 hl9 => ?_)
  have hl10 := qh_lv_set (k := 10) (v := .ref q) hc hl9
  have h0' : (ls.set 10 (some (Value.ref q)))[0]? = some (some (.ref a0)) := by rw [List.getElem?_set_ne (by decide)]; exact h0
  have h1' : (ls.set 10 (some (Value.ref q)))[1]? = some (some (.ref a1)) := by rw [List.getElem?_set_ne (by decide)]; exact h1
  have h9' : (ls.set 10 (some (Value.ref q)))[9]? = some (some (.int x9)) := by rw [List.getElem?_set_ne (by decide)]; exact h9
  have h10' : (ls.set 10 (some (Value.ref q)))[10]? = some (some (.ref q)) := List.getElem?_set_self hlen
  refine lv_aload_n C.1 hcc dX1_ship_56 rfl (qh_lv_at hl10 h1') ?_
  refine lv_dup C.1 hcc dX1_ship_57 rfl ?_
  refine va_get C.1 hcc hts ck_X14.2.1 hown hK hP1 ks hks ck_X14.1 9 (by decide) (hts _ q1301) (fun _ h => h) hsv dX1_ship_58 ?_
  refine lv_aload_n C.1 hcc dX1_ship_61 rfl (qh_lv_at hl10 h0') ?_
  refine va_get C.1 hcc hts ck_X1.2.1 hown hK hP1 kx hkx ck_X1.1 12 (by decide) (hts _ q313) (fun _ h => h) hxl dX1_ship_62 ?_
  refine va_get C.1 hcc hts ck_X6.2.1 hown hK hP1 kl hkl ck_X6.1 4 (by decide) (hts _ q246) (fun _ h => h) hlw dX1_ship_65 ?_
  refine lv_iload C.1 hcc dX1_ship_68 (qh_lv_at hl10 h9') ?_
  refine lv_isub C.1 hcc dX1_ship_70 ?_
  refine lv_iadd C.1 hcc dX1_ship_71 ?_
  refine va_put C.1 hcc hts ck_X14.2.1 tyX14 ck_X14.2.2.1 ck_X14.2.2.2 hown hK hP1 hD1 hS ks hks ck_X14.1 9 (by decide) (hts _ q1301) (fun _ h => h) rfl (ck_X14.2.2.1 9 (by decide)) rfl rfl (List.getElem?_eq_some_iff.mp hsv).1 dX1_ship_72 (fun H1 locs1 hP2 hD2 hS2 => ?_)
  refine lv_aload C.1 hcc dX1_ship_75 (qh_lv_at hl10 h10') ?_
  refine vx_athrow C.1 hcc dX1_ship_77 ?_
  -- the exception's cell is what it was
  obtain ⟨ce1, z1, z2, z3⟩ : ∃ ce1 : Cell, H1[q]? = some ce1 ∧ ce1.vm = .none ∧ ce1.cls = ce.cls := by
    rcases hin with ⟨k, ee, hk⟩ | hA
    · by_cases hkk : ks = k
      · subst hkk
        rw [hks] at hk
        cases hk
        obtain ⟨r1, hr1, cell1, g1, g2, g3, -⟩ := hP1 _ _ hks
        obtain ⟨r2, hr2, cell2, f1, f2, f3, -⟩ := hP2 ks (a1, .inr (13, fs.set 9 (.int (v + (w - x9))))) (by rw [List.getElem?_set_self (List.getElem?_eq_some_iff.mp hks).1])
        cases Option.some.inj (g1.symm.trans hqc)
        exact ⟨cell2, f1, f3, by rw [f2, g2]⟩
      · have hk2 : (ws1.set ks (a1, .inr (13, fs.set 9 (.int (v + (w - x9))))))[k]? = some (q, ee) := by rw [List.getElem?_set_ne hkk]; exact hk
        have b1 := hP1 k _ hk
        have b2 := hP2 k _ hk2
        cases ee with
        | inl y =>
          have b3 : H[q]? = some (vp_cell y.1 y.2) := b1
          have b4 : H1[q]? = some (vp_cell y.1 y.2) := b2
          have b5 := Option.some.inj (b3.symm.trans hqc)
          exact ⟨_, b4, by rw [b5]; exact hqv, by rw [b5]⟩
        | inr y =>
          obtain ⟨r1, hr1, cell1, g1, g2, g3, -⟩ := b1
          obtain ⟨r2, hr2, cell2, f1, f2, f3, -⟩ := b2
          cases Option.some.inj (g1.symm.trans hqc)
          exact ⟨cell2, f1, f3, by rw [f2, g2]⟩
    · have hqs : q < s.heap.size := Nat.not_le.mp fun z => hA (C.2.2.2.2.2.2.2.2.2.1 q z)
      exact ⟨ce, by rw [hS2.2.1 q hqs hA, ← hS.2.1 q hqs hA]; exact hqc, hqv, rfl⟩
  refine vx_out (E := "QueryHarbor$NoAnswer") (ce := ce1) ?_ C.2.2.2.1 z1 z2 (by rw [z3]; exact hqcl) (fun t ht hvm => ⟨_, hq, ⟨_, hT1.set hD1 hks, by rw [ht]; exact hP2, hD2⟩, hS2.F ht⟩) hS2.2.2 (by omega) (by omega)
  rw [htab']
  decide
theorem qc_fin {g : qh_G} {x : qc_X} {d c : Nat} {I : qh_I} {ls : List (Option Value)} {h : qc_H} {P : qh_R → qc_H → Prop} {KX : String → qc_H → Prop} {a0 a1 : Nat} {x9 : Int32} {pc : Nat}
    (e : I.2.1 = cX1_ship) (ho : I.1.cls = RX1) (htab : I.2.2.2.2 = [(18, 32, 54, 0), (54, 56, 54, 0)]) (hn : 10 < I.2.2.1) (hpc : pc = 29)
    (h0 : ls[0]? = some (some (.ref a0))) (h1 : ls[1]? = some (some (.ref a1))) (h9 : ls[9]? = some (some (.int x9))) (hlen : 10 < ls.length)
    (hh : eI h a1 13 9 (fun v => eR h a0 0 12 (fun l => eI h l 5 4 (fun w => eP h a1 13 9 (.int (v + (w - x9))) (fun h' => KX "QueryHarbor$NoAnswer" h'))))) : qc_wx g x d c I pc ls "QueryHarbor$NoAnswer" h (oX P KX) := by
  intro τ hR
  obtain ⟨fs, v, a, b, f0, l, a', b', fl, w, a2, b2, fs2, a3, b3, hk⟩ := hh
  cases Option.some.inj (a3.symm.trans a)
  have ht := hR.obj a (by decide)
  exact qh_fin e ho htab hn hpc h0 h1 h9 hlen ht b (hR.obj a' (by decide)) b' (hR.obj a2 (by decide)) b2 ⟨_, hR.put a (fun z => z) (by rw [ht]; intro z; cases z), Or.inr ⟨_, rfl, hk⟩⟩
