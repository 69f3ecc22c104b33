/-! CORE 21, next part (printed by gen2.py) -/
set_option maxRecDepth 100000
def I_X1_tell : qh_I := (yX1_tell, cX1_tell, 7, (Option.none : Option Jvm.ClassFile.FieldType), [])
theorem E_X1_tell : I_X1_tell.2.1 = cX1_tell := rfl
theorem M_X1_tell : qh_M I_X1_tell 2 := ⟨by decide, by decide, by decide +kernel, q85, q1535, by decide⟩
def T_X1_tell (g : qh_G) (a0 : Nat) (a1 : Nat) (a2 : Nat) (hp : qc_H) (c : Nat) (K : qc_H → Prop) : Prop := eR hp a0 0 8 (fun v1 => eGt hp v1 0 (fun p2 => eC hp p2 12 (eI hp p2 12 0 (fun v3 => eQ g.2.2.2.1 6 hp a1 v3 (fun v4 => eR hp v4 8 1 (fun v5 => eR hp a0 0 8 (fun v6 => eGt hp v6 0 (fun p7 => eC hp p7 12 (eI hp p7 12 1 (fun v8 => eA g.2.2.2.1 hp v5 v8 (fun v9 => eI hp a0 0 11 (fun v10 => (¬ v10 = 0 → eR hp a0 0 8 (fun v12 => eR hp a0 0 8 (fun v13 => eSz hp v13 (fun n14 => eGt hp v12 (n14 - 1) (fun p15 => eC hp p15 12 (eI hp p15 12 0 (fun v16 => eQ g.2.2.2.1 6 hp a1 v16 (fun v17 => eR hp v17 8 1 (fun v18 => eI hp p15 12 1 (fun v19 => eA g.2.2.2.1 hp v18 v19 (fun v20 => ∀ X21 : Int32 → Prop, (∀ (x22 : Int32), (eR hp a2 5 0 (fun v23 => eSz hp v23 (fun n24 => ∀ J32 : Prop, ((eR hp a2 5 0 (fun v33 => eSz hp v33 (fun n34 => ∀ J58 : qc_H → Nat → Prop, (∀ (h59 : qc_H) (c60 : Nat), (eR h59 a2 5 0 (fun v61 => eGt h59 v61 x22 (fun p62 => eCA g.2.2.2.1 h59 p62 (eA g.2.2.2.1 h59 p62 1 (fun v63 => eW g.2.2.2.1 h59 p62 1 (v63 + 1) (fun h64 => eR h64 a2 5 0 (fun v65 => eGt h64 v65 x22 (fun p66 => eCA g.2.2.2.1 h64 p66 (eA g.2.2.2.1 h64 p66 2 (fun v67 => T_X1_isNumber g v20 h64 (fun r68 => ∀ J71 : Int32 → Prop, (∀ (x72 : Int32), (eW g.2.2.2.1 h64 p66 2 (v67 + x72) (fun h73 => K h73)) → J71 x72) → (r68 = 0 → J71 0) ∧ (¬ r68 = 0 → J71 v20)))))))))))) → J58 h59 c60) → (x22 = n34 → eR hp a2 5 0 (fun v36 => eNI g.2.2.2.1 hp 3 c (fun w37 h38 c39 => eW g.2.2.2.1 h38 w37 0 v9 (fun h40 => eW g.2.2.2.1 h40 w37 1 0 (fun h41 => eW g.2.2.2.1 h41 w37 2 0 (fun h42 => eAI g h42 v36 x22 w37 c39 (fun h43 c44 => J58 h43 c44))))))) ∧ (¬ x22 = n34 → eR hp a2 5 0 (fun v45 => eGt hp v45 x22 (fun p46 => eCA g.2.2.2.1 hp p46 (eA g.2.2.2.1 hp p46 0 (fun v47 => (v47 = v9 → J58 hp c) ∧ (¬ v47 = v9 → eR hp a2 5 0 (fun v49 => eNI g.2.2.2.1 hp 3 c (fun w50 h51 c52 => eW g.2.2.2.1 h51 w50 0 v9 (fun h53 => eW g.2.2.2.1 h53 w50 1 0 (fun h54 => eW g.2.2.2.1 h54 w50 2 0 (fun h55 => eAI g h55 v49 x22 w50 c52 (fun h56 c57 => J58 h56 c57))))))))))))))) → J32) → (n24 ≤ x22 → J32) ∧ (¬ n24 ≤ x22 → eR hp a2 5 0 (fun v26 => eGt hp v26 x22 (fun p27 => eCA g.2.2.2.1 hp p27 (eA g.2.2.2.1 hp p27 0 (fun v28 => T_X1_rank g v28 hp (fun r29 => T_X1_rank g v9 hp (fun r30 => (r30 ≤ r29 → J32) ∧ (¬ r30 ≤ r29 → X21 (x22 + 1)))))))))))) → X21 x22) → X21 0))))))))))) ∧ (v10 = 0 → eR hp a2 5 0 (fun v74 => eSz hp v74 (fun n75 => eI hp a0 0 10 (fun v76 => (v76 ≤ n75 → K hp) ∧ (¬ v76 ≤ n75 → eR hp a0 0 8 (fun v78 => eSz hp v78 (fun n79 => eNI g.2.2.2.1 hp n79 c (fun w80 h81 c82 => ∀ X83 : Int32 → qc_H → Prop, (∀ (x84 : Int32) (h85 : qc_H), (eT g.2.2.2.1 0 h85 w80 (fun v86 => (v86 ≤ x84 → eR h85 a2 5 0 (fun v88 => eAd g h85 v88 w80 c82 (fun h89 c90 => K h89))) ∧ (¬ v86 ≤ x84 → eR h85 a0 0 8 (fun v91 => eGt h85 v91 x84 (fun p92 => eC h85 p92 12 (eI h85 p92 12 0 (fun v93 => eQ g.2.2.2.1 6 h85 a1 v93 (fun v94 => eR h85 v94 8 1 (fun v95 => eR h85 a0 0 8 (fun v96 => eGt h85 v96 x84 (fun p97 => eC h85 p97 12 (eI h85 p97 12 1 (fun v98 => eA g.2.2.2.1 h85 v95 v98 (fun v99 => eW g.2.2.2.1 h85 w80 x84 v99 (fun h100 => X83 (x84 + 1) h100))))))))))))))) → X83 x84 h85) → X83 0 h81))))))))))))))))))))
set_option maxHeartbeats 8000000 in
theorem C_X1_tell {g : qh_G} {x : qc_X} {d : Nat} {sd : String → Nat → Nat} (hO : qc_O g x) (hP : qc_P g qp_ts sd) (a0 : Nat) (a1 : Nat) (a2 : Nat) (hp : qc_H) (c : Nat) (K : qc_H → Prop) (hz : T_X1_tell g a0 a1 a2 hp c K) : qc_S g x (d + 6) c I_X1_tell [.ref a0, .ref a1, .ref a2] hp (oV K) := by
  refine qc_S.of (by decide) rfl (ls := [some (.ref a0), some (.ref a1), some (.ref a2), none, none, none, none]) rfl (Nat.le_of_ble_eq_true rfl) (ct_c rfl (ct_c rfl (ct_c rfl ct_n))) ?_
  unfold T_X1_tell at hz
  have h := hz
  clear hz
  refine qc_aload_n E_X1_tell (by rfl) dX1_tell_0 ?_
  refine qc_aload_n E_X1_tell (by rfl) dX1_tell_1 ?_
  refine re_getR E_X1_tell rfl ck_X1 (by decide) 8 (by decide) q309 dX1_tell_2 h ?_
  clear h
  intro v1 h
  refine qc_iconst E_X1_tell 0 (by decide) dX1_tell_5 ?_
  refine re_get (d := d) hO E_X1_tell rfl q1013 (Nat.le_of_ble_eq_true rfl) dX1_tell_6 h ?_
  clear h
  intro p2 h
  refine re_castS (ci := 12) hO E_X1_tell rfl rfl q1221 dX1_tell_9 h ?_
  clear h
  intro h
  refine re_getI E_X1_tell rfl ck_X13 (by decide) 0 (by decide) q1228 dX1_tell_12 h ?_
  clear h
  intro v3 h
  refine re_aald 6 (fun _ => rfl) E_X1_tell dX1_tell_15 h ?_
  clear h
  intro v4 h
  refine re_getR E_X1_tell rfl ck_X9 (by decide) 1 (by decide) q646 dX1_tell_16 h ?_
  clear h
  intro v5 h
  refine qc_aload_n E_X1_tell (by rfl) dX1_tell_19 ?_
  refine re_getR E_X1_tell rfl ck_X1 (by decide) 8 (by decide) q309 dX1_tell_20 h ?_
  clear h
  intro v6 h
  refine qc_iconst E_X1_tell 0 (by decide) dX1_tell_23 ?_
  refine re_get (d := d) hO E_X1_tell rfl q1013 (Nat.le_of_ble_eq_true rfl) dX1_tell_24 h ?_
  clear h
  intro p7 h
  refine re_castS (ci := 12) hO E_X1_tell rfl rfl q1221 dX1_tell_27 h ?_
  clear h
  intro h
  refine re_getI E_X1_tell rfl ck_X13 (by decide) 1 (by decide) q1230 dX1_tell_30 h ?_
  clear h
  intro v8 h
  refine re_iald E_X1_tell dX1_tell_33 h ?_
  clear h
  intro v9 h
  refine qc_istore_n E_X1_tell (by decide) dX1_tell_34 ?_
  refine qc_aload_n E_X1_tell (by rfl) dX1_tell_35 ?_
  refine re_getI E_X1_tell rfl ck_X1 (by decide) 11 (by decide) q312 dX1_tell_36 h ?_
  clear h
  intro v10 h
  refine qc_if_ne E_X1_tell 136 dX1_tell_39 (by decide) (fun (c11 : ¬ v10 = 0) => ?_) (fun (c11 : v10 = 0) => ?_)
  · replace h := h.1 c11
    refine qc_aload_n E_X1_tell (by rfl) dX1_tell_136 ?_
    refine re_getR E_X1_tell rfl ck_X1 (by decide) 8 (by decide) q309 dX1_tell_137 h ?_
    clear h
    intro v12 h
    refine qc_aload_n E_X1_tell (by rfl) dX1_tell_140 ?_
    refine re_getR E_X1_tell rfl ck_X1 (by decide) 8 (by decide) q309 dX1_tell_141 h ?_
    clear h
    intro v13 h
    refine re_size (d := d) hO E_X1_tell rfl q366 (Nat.le_of_ble_eq_true rfl) dX1_tell_144 h ?_
    clear h
    intro n14 h
    refine qc_iconst E_X1_tell 1 (by decide) dX1_tell_147 ?_
    refine qc_isub E_X1_tell dX1_tell_148 ?_
    refine re_get (d := d) hO E_X1_tell rfl q1013 (Nat.le_of_ble_eq_true rfl) dX1_tell_149 h ?_
    clear h
    intro p15 h
    refine re_castS (ci := 12) hO E_X1_tell rfl rfl q1221 dX1_tell_152 h ?_
    clear h
    intro h
    refine qc_astore E_X1_tell (by decide) dX1_tell_155 ?_
    refine qc_aload_n E_X1_tell (by rfl) dX1_tell_157 ?_
    refine qc_aload E_X1_tell (by rfl) dX1_tell_158 ?_
    refine re_getI E_X1_tell rfl ck_X13 (by decide) 0 (by decide) q1228 dX1_tell_160 h ?_
    clear h
    intro v16 h
    refine re_aald 6 (fun _ => rfl) E_X1_tell dX1_tell_163 h ?_
    clear h
    intro v17 h
    refine re_getR E_X1_tell rfl ck_X9 (by decide) 1 (by decide) q646 dX1_tell_164 h ?_
    clear h
    intro v18 h
    refine qc_aload E_X1_tell (by rfl) dX1_tell_167 ?_
    refine re_getI E_X1_tell rfl ck_X13 (by decide) 1 (by decide) q1230 dX1_tell_169 h ?_
    clear h
    intro v19 h
    refine re_iald E_X1_tell dX1_tell_172 h ?_
    clear h
    intro v20 h
    refine qc_istore E_X1_tell (by decide) dX1_tell_173 ?_
    refine qc_iconst E_X1_tell 0 (by decide) dX1_tell_175 ?_
    refine qc_istore E_X1_tell (by decide) dX1_tell_176 ?_
    refine qc_drop 0 ?_
    refine qc_drop 1 ?_
    refine qc_drop 4 ?_
    refine h (fun (x22 : Int32) => qc_wp g x (d + 6) c I_X1_tell 178 [none, none, some (.ref a2), some (.int v9), none, some (.int v20), some (.int x22)] [] hp (oV K)) ?_
    clear h
    intro x22 h
    refine qc_iload E_X1_tell (by rfl) dX1_tell_178 ?_
    refine qc_aload_n E_X1_tell (by rfl) dX1_tell_180 ?_
    refine re_getR E_X1_tell rfl ck_X6 (by decide) 0 (by decide) q240 dX1_tell_181 h ?_
    clear h
    intro v23 h
    refine re_size (d := d) hO E_X1_tell rfl q366 (Nat.le_of_ble_eq_true rfl) dX1_tell_184 h ?_
    clear h
    intro n24 h
    have jz := h (qc_wp g x (d + 6) c I_X1_tell 220 [none, none, some (.ref a2), some (.int v9), none, some (.int v20), some (.int x22)] [] hp (oV K))
    clear h
    have h := jz (by
      intro h
      refine qc_iload E_X1_tell (by rfl) dX1_tell_220 ?_
      refine qc_aload_n E_X1_tell (by rfl) dX1_tell_222 ?_
      refine re_getR E_X1_tell rfl ck_X6 (by decide) 0 (by decide) q240 dX1_tell_223 h ?_
      clear h
      intro v33 h
      refine re_size (d := d) hO E_X1_tell rfl q366 (Nat.le_of_ble_eq_true rfl) dX1_tell_226 h ?_
      clear h
      intro n34 h
      have jz := h (fun (h59 : qc_H) (c60 : Nat) => qc_wp g x (d + 6) c60 I_X1_tell 274 [none, none, some (.ref a2), none, none, some (.int v20), some (.int x22)] [] h59 (oV K))
      clear h
      have h := jz (by
        intro h59 c60 h
        refine qc_aload_n E_X1_tell (by rfl) dX1_tell_274 ?_
        refine re_getR E_X1_tell rfl ck_X6 (by decide) 0 (by decide) q240 dX1_tell_275 h ?_
        clear h
        intro v61 h
        refine qc_iload E_X1_tell (by rfl) dX1_tell_278 ?_
        refine re_get (d := d) hO E_X1_tell rfl q1013 (Nat.le_of_ble_eq_true rfl) dX1_tell_280 h ?_
        clear h
        intro p62 h
        refine re_castA E_X1_tell rfl q1536 dX1_tell_283 h ?_
        clear h
        intro h
        refine qc_iconst E_X1_tell 1 (by decide) dX1_tell_286 ?_
        refine qc_dup2 E_X1_tell rfl rfl dX1_tell_287 ?_
        refine re_iald E_X1_tell dX1_tell_288 h ?_
        clear h
        intro v63 h
        refine qc_iconst E_X1_tell 1 (by decide) dX1_tell_289 ?_
        refine qc_iadd E_X1_tell dX1_tell_290 ?_
        refine re_iast E_X1_tell dX1_tell_291 h ?_
        clear h
        intro h64 h
        refine qc_aload_n E_X1_tell (by rfl) dX1_tell_292 ?_
        refine re_getR E_X1_tell rfl ck_X6 (by decide) 0 (by decide) q240 dX1_tell_293 h ?_
        clear h
        intro v65 h
        refine qc_iload E_X1_tell (by rfl) dX1_tell_296 ?_
        refine re_get (d := d) hO E_X1_tell rfl q1013 (Nat.le_of_ble_eq_true rfl) dX1_tell_298 h ?_
        clear h
        intro p66 h
        refine re_castA E_X1_tell rfl q1536 dX1_tell_301 h ?_
        clear h
        intro h
        refine qc_iconst E_X1_tell 2 (by decide) dX1_tell_304 ?_
        refine qc_dup2 E_X1_tell rfl rfl dX1_tell_305 ?_
        refine re_iald E_X1_tell dX1_tell_306 h ?_
        clear h
        intro v67 h
        refine qc_iload E_X1_tell (by rfl) dX1_tell_307 ?_
        refine qc_callS (c := c60) (k := 0) (As := [.int v20]) (rest := [.int v67, .int 2, .ref p66]) E_X1_tell rfl M_X1_isNumber rfl q1191 q527 rfl rfl (Nat.le_of_ble_eq_true rfl) dX1_tell_309 (qc_S.mono ?_ (C_X1_isNumber (d := d + 5) hO hP v20 h64 _ h))
        clear h
        rintro _ _ ⟨r68, rfl, z69, rfl, h⟩
        refine K1_i ?_
        have jz := h (fun (x72 : Int32) => qc_wp g x (d + 6) c60 I_X1_tell 321 [none, none, none, none, none, none, none] [.int x72, .int v67, .int 2, .ref p66] h64 (oV K))
        clear h
        have h := jz (by
          intro x72 h
          refine qc_iadd E_X1_tell dX1_tell_321 ?_
          refine re_iast E_X1_tell dX1_tell_322 h ?_
          clear h
          intro h73 h
          exact qc_vret E_X1_tell rfl dX1_tell_323 (⟨rfl, h⟩))
        clear jz
        refine qc_if_eq E_X1_tell 320 dX1_tell_312 (by decide) (fun (c70 : r68 = 0) => ?_) (fun (c70 : ¬ r68 = 0) => ?_)
        · replace h := h.1 c70
          refine qc_iconst E_X1_tell 0 (by decide) dX1_tell_320 ?_
          refine qc_drop 2 ?_
          refine qc_drop 5 ?_
          refine qc_drop 6 ?_
          exact h
        · replace h := h.2 c70
          refine qc_iload E_X1_tell (by rfl) dX1_tell_315 ?_
          refine qc_goto E_X1_tell 321 dX1_tell_317 (by decide) ?_
          refine qc_drop 2 ?_
          refine qc_drop 5 ?_
          refine qc_drop 6 ?_
          exact h)
      clear jz
      refine qc_icmp_eq E_X1_tell 250 dX1_tell_229 (by decide) (fun (c35 : x22 = n34) => ?_) (fun (c35 : ¬ x22 = n34) => ?_)
      · replace h := h.1 c35
        refine qc_aload_n E_X1_tell (by rfl) dX1_tell_250 ?_
        refine re_getR E_X1_tell rfl ck_X6 (by decide) 0 (by decide) q240 dX1_tell_251 h ?_
        clear h
        intro v36 h
        refine qc_iload E_X1_tell (by rfl) dX1_tell_254 ?_
        refine qc_iconst E_X1_tell 3 (by decide) dX1_tell_256 ?_
        refine re_newI hO E_X1_tell q559 dX1_tell_257 h ?_
        clear h
        intro w37 h38 c39 h
        refine qc_dup E_X1_tell rfl dX1_tell_259 ?_
        refine qc_iconst E_X1_tell 0 (by decide) dX1_tell_260 ?_
        refine qc_iload_n E_X1_tell (by rfl) dX1_tell_261 ?_
        refine re_iast E_X1_tell dX1_tell_262 h ?_
        clear h
        intro h40 h
        refine qc_dup E_X1_tell rfl dX1_tell_263 ?_
        refine qc_iconst E_X1_tell 1 (by decide) dX1_tell_264 ?_
        refine qc_iconst E_X1_tell 0 (by decide) dX1_tell_265 ?_
        refine re_iast E_X1_tell dX1_tell_266 h ?_
        clear h
        intro h41 h
        refine qc_dup E_X1_tell rfl dX1_tell_267 ?_
        refine qc_iconst E_X1_tell 2 (by decide) dX1_tell_268 ?_
        refine qc_iconst E_X1_tell 0 (by decide) dX1_tell_269 ?_
        refine re_iast E_X1_tell dX1_tell_270 h ?_
        clear h
        intro h42 h
        refine re_addI (d := d) hO E_X1_tell rfl q1372 (Nat.le_of_ble_eq_true rfl) dX1_tell_271 h ?_
        clear h
        intro h43 c44 h
        refine qc_drop 3 ?_
        exact h
      · replace h := h.2 c35
        refine qc_aload_n E_X1_tell (by rfl) dX1_tell_232 ?_
        refine re_getR E_X1_tell rfl ck_X6 (by decide) 0 (by decide) q240 dX1_tell_233 h ?_
        clear h
        intro v45 h
        refine qc_iload E_X1_tell (by rfl) dX1_tell_236 ?_
        refine re_get (d := d) hO E_X1_tell rfl q1013 (Nat.le_of_ble_eq_true rfl) dX1_tell_238 h ?_
        clear h
        intro p46 h
        refine re_castA E_X1_tell rfl q1536 dX1_tell_241 h ?_
        clear h
        intro h
        refine qc_iconst E_X1_tell 0 (by decide) dX1_tell_244 ?_
        refine re_iald E_X1_tell dX1_tell_245 h ?_
        clear h
        intro v47 h
        refine qc_iload_n E_X1_tell (by rfl) dX1_tell_246 ?_
        refine qc_icmp_eq E_X1_tell 274 dX1_tell_247 (by decide) (fun (c48 : v47 = v9) => ?_) (fun (c48 : ¬ v47 = v9) => ?_)
        · replace h := h.1 c48
          refine qc_drop 3 ?_
          exact h
        · replace h := h.2 c48
          refine qc_aload_n E_X1_tell (by rfl) dX1_tell_250 ?_
          refine re_getR E_X1_tell rfl ck_X6 (by decide) 0 (by decide) q240 dX1_tell_251 h ?_
          clear h
          intro v49 h
          refine qc_iload E_X1_tell (by rfl) dX1_tell_254 ?_
          refine qc_iconst E_X1_tell 3 (by decide) dX1_tell_256 ?_
          refine re_newI hO E_X1_tell q559 dX1_tell_257 h ?_
          clear h
          intro w50 h51 c52 h
          refine qc_dup E_X1_tell rfl dX1_tell_259 ?_
          refine qc_iconst E_X1_tell 0 (by decide) dX1_tell_260 ?_
          refine qc_iload_n E_X1_tell (by rfl) dX1_tell_261 ?_
          refine re_iast E_X1_tell dX1_tell_262 h ?_
          clear h
          intro h53 h
          refine qc_dup E_X1_tell rfl dX1_tell_263 ?_
          refine qc_iconst E_X1_tell 1 (by decide) dX1_tell_264 ?_
          refine qc_iconst E_X1_tell 0 (by decide) dX1_tell_265 ?_
          refine re_iast E_X1_tell dX1_tell_266 h ?_
          clear h
          intro h54 h
          refine qc_dup E_X1_tell rfl dX1_tell_267 ?_
          refine qc_iconst E_X1_tell 2 (by decide) dX1_tell_268 ?_
          refine qc_iconst E_X1_tell 0 (by decide) dX1_tell_269 ?_
          refine re_iast E_X1_tell dX1_tell_270 h ?_
          clear h
          intro h55 h
          refine re_addI (d := d) hO E_X1_tell rfl q1372 (Nat.le_of_ble_eq_true rfl) dX1_tell_271 h ?_
          clear h
          intro h56 c57 h
          refine qc_drop 3 ?_
          exact h)
    clear jz
    refine qc_icmp_ge E_X1_tell 220 dX1_tell_187 (by decide) (fun (c25 : n24 ≤ x22) => ?_) (fun (c25 : ¬ n24 ≤ x22) => ?_)
    · replace h := h.1 c25
      exact h
    · replace h := h.2 c25
      refine qc_aload_n E_X1_tell (by rfl) dX1_tell_190 ?_
      refine re_getR E_X1_tell rfl ck_X6 (by decide) 0 (by decide) q240 dX1_tell_191 h ?_
      clear h
      intro v26 h
      refine qc_iload E_X1_tell (by rfl) dX1_tell_194 ?_
      refine re_get (d := d) hO E_X1_tell rfl q1013 (Nat.le_of_ble_eq_true rfl) dX1_tell_196 h ?_
      clear h
      intro p27 h
      refine re_castA E_X1_tell rfl q1536 dX1_tell_199 h ?_
      clear h
      intro h
      refine qc_iconst E_X1_tell 0 (by decide) dX1_tell_202 ?_
      refine re_iald E_X1_tell dX1_tell_203 h ?_
      clear h
      intro v28 h
      refine qc_callS (c := c) (k := 0) (As := [.int v28]) (rest := []) E_X1_tell rfl M_X1_rank rfl q1537 q1538 rfl rfl (Nat.le_of_ble_eq_true rfl) dX1_tell_204 (qc_S.mono ?_ (C_X1_rank (d := d + 5) hO hP v28 hp _ h))
      clear h
      rintro _ _ ⟨r29, rfl, rfl, h⟩
      refine K1_i ?_
      refine qc_iload_n E_X1_tell (by rfl) dX1_tell_207 ?_
      refine qc_callS (c := c) (k := 0) (As := [.int v9]) (rest := [.int r29]) E_X1_tell rfl M_X1_rank rfl q1537 q1538 rfl rfl (Nat.le_of_ble_eq_true rfl) dX1_tell_208 (qc_S.mono ?_ (C_X1_rank (d := d + 5) hO hP v9 hp _ h))
      clear h
      rintro _ _ ⟨r30, rfl, rfl, h⟩
      refine K1_i ?_
      refine qc_icmp_ge E_X1_tell 220 dX1_tell_211 (by decide) (fun (c31 : r30 ≤ r29) => ?_) (fun (c31 : ¬ r30 ≤ r29) => ?_)
      · replace h := h.1 c31
        exact h
      · replace h := h.2 c31
        refine qc_iinc E_X1_tell 1 rfl (by decide) (by decide) dX1_tell_214 ?_
        refine qc_goto E_X1_tell 178 dX1_tell_217 (by decide) ?_
        exact h
  · replace h := h.2 c11
    refine qc_aload_n E_X1_tell (by rfl) dX1_tell_42 ?_
    refine re_getR E_X1_tell rfl ck_X6 (by decide) 0 (by decide) q240 dX1_tell_43 h ?_
    clear h
    intro v74 h
    refine re_size (d := d) hO E_X1_tell rfl q366 (Nat.le_of_ble_eq_true rfl) dX1_tell_46 h ?_
    clear h
    intro n75 h
    refine qc_aload_n E_X1_tell (by rfl) dX1_tell_49 ?_
    refine re_getI E_X1_tell rfl ck_X1 (by decide) 10 (by decide) q311 dX1_tell_50 h ?_
    clear h
    intro v76 h
    refine qc_icmp_ge E_X1_tell 135 dX1_tell_53 (by decide) (fun (c77 : v76 ≤ n75) => ?_) (fun (c77 : ¬ v76 ≤ n75) => ?_)
    · replace h := h.1 c77
      exact qc_vret E_X1_tell rfl dX1_tell_135 (⟨rfl, h⟩)
    · replace h := h.2 c77
      refine qc_aload_n E_X1_tell (by rfl) dX1_tell_56 ?_
      refine re_getR E_X1_tell rfl ck_X1 (by decide) 8 (by decide) q309 dX1_tell_57 h ?_
      clear h
      intro v78 h
      refine re_size (d := d) hO E_X1_tell rfl q366 (Nat.le_of_ble_eq_true rfl) dX1_tell_60 h ?_
      clear h
      intro n79 h
      refine re_newI hO E_X1_tell q559 dX1_tell_63 h ?_
      clear h
      intro w80 h81 c82 h
      refine qc_astore E_X1_tell (by decide) dX1_tell_65 ?_
      refine qc_iconst E_X1_tell 0 (by decide) dX1_tell_67 ?_
      refine qc_istore E_X1_tell (by decide) dX1_tell_68 ?_
      refine qc_drop 3 ?_
      refine h (fun (x84 : Int32) (h85 : qc_H) => qc_wp g x (d + 6) c82 I_X1_tell 70 [some (.ref a0), some (.ref a1), some (.ref a2), none, some (.ref w80), some (.int x84), none] [] h85 (oV K)) ?_
      clear h
      intro x84 h85 h
      refine qc_iload E_X1_tell (by rfl) dX1_tell_70 ?_
      refine qc_aload E_X1_tell (by rfl) dX1_tell_72 ?_
      refine re_alen E_X1_tell 0 (fun _ => rfl) dX1_tell_74 h ?_
      clear h
      intro v86 h
      refine qc_icmp_ge E_X1_tell 125 dX1_tell_75 (by decide) (fun (c87 : v86 ≤ x84) => ?_) (fun (c87 : ¬ v86 ≤ x84) => ?_)
      · replace h := h.1 c87
        refine qc_aload_n E_X1_tell (by rfl) dX1_tell_125 ?_
        refine re_getR E_X1_tell rfl ck_X6 (by decide) 0 (by decide) q240 dX1_tell_126 h ?_
        clear h
        intro v88 h
        refine qc_aload E_X1_tell (by rfl) dX1_tell_129 ?_
        refine re_add (d := d) hO E_X1_tell rfl q982 (Nat.le_of_ble_eq_true rfl) dX1_tell_131 h ?_
        clear h
        intro h89 c90 h
        refine qc_pop E_X1_tell rfl dX1_tell_134 ?_
        exact qc_vret E_X1_tell rfl dX1_tell_135 (⟨rfl, h⟩)
      · replace h := h.2 c87
        refine qc_aload E_X1_tell (by rfl) dX1_tell_78 ?_
        refine qc_iload E_X1_tell (by rfl) dX1_tell_80 ?_
        refine qc_aload_n E_X1_tell (by rfl) dX1_tell_82 ?_
        refine qc_aload_n E_X1_tell (by rfl) dX1_tell_83 ?_
        refine re_getR E_X1_tell rfl ck_X1 (by decide) 8 (by decide) q309 dX1_tell_84 h ?_
        clear h
        intro v91 h
        refine qc_iload E_X1_tell (by rfl) dX1_tell_87 ?_
        refine re_get (d := d) hO E_X1_tell rfl q1013 (Nat.le_of_ble_eq_true rfl) dX1_tell_89 h ?_
        clear h
        intro p92 h
        refine re_castS (ci := 12) hO E_X1_tell rfl rfl q1221 dX1_tell_92 h ?_
        clear h
        intro h
        refine re_getI E_X1_tell rfl ck_X13 (by decide) 0 (by decide) q1228 dX1_tell_95 h ?_
        clear h
        intro v93 h
        refine re_aald 6 (fun _ => rfl) E_X1_tell dX1_tell_98 h ?_
        clear h
        intro v94 h
        refine re_getR E_X1_tell rfl ck_X9 (by decide) 1 (by decide) q646 dX1_tell_99 h ?_
        clear h
        intro v95 h
        refine qc_aload_n E_X1_tell (by rfl) dX1_tell_102 ?_
        refine re_getR E_X1_tell rfl ck_X1 (by decide) 8 (by decide) q309 dX1_tell_103 h ?_
        clear h
        intro v96 h
        refine qc_iload E_X1_tell (by rfl) dX1_tell_106 ?_
        refine re_get (d := d) hO E_X1_tell rfl q1013 (Nat.le_of_ble_eq_true rfl) dX1_tell_108 h ?_
        clear h
        intro p97 h
        refine re_castS (ci := 12) hO E_X1_tell rfl rfl q1221 dX1_tell_111 h ?_
        clear h
        intro h
        refine re_getI E_X1_tell rfl ck_X13 (by decide) 1 (by decide) q1230 dX1_tell_114 h ?_
        clear h
        intro v98 h
        refine re_iald E_X1_tell dX1_tell_117 h ?_
        clear h
        intro v99 h
        refine re_iast E_X1_tell dX1_tell_118 h ?_
        clear h
        intro h100 h
        refine qc_iinc E_X1_tell 1 rfl (by decide) (by decide) dX1_tell_119 ?_
        refine qc_goto E_X1_tell 70 dX1_tell_122 (by decide) ?_
        exact h
def I_X11_holdsFor : qh_I := (yX11_holdsFor, cX11_holdsFor, 3, (Option.some Jvm.ClassFile.FieldType.boolean), [])
theorem E_X11_holdsFor : I_X11_holdsFor.2.1 = cX11_holdsFor := rfl
theorem M_X11_holdsFor : qh_M I_X11_holdsFor 2 := ⟨by decide, by decide, by decide +kernel, q119, q1547, by decide⟩
def T_X11_holdsFor (g : qh_G) (a0 : Nat) (a1 : Nat) (a2 : Nat) (hp : qc_H) (K : Int32 → Prop) : Prop := eR hp a1 8 1 (fun v1 => eI hp a0 10 1 (fun v2 => eA g.2.2.2.1 hp v1 v2 (fun v3 => T_X1_isNumber g v3 hp (fun r4 => (r4 = 0 → K 0) ∧ (¬ r4 = 0 → eR hp a1 8 1 (fun v7 => eI hp a0 10 1 (fun v8 => eA g.2.2.2.1 hp v7 v8 (fun v9 => eR hp a2 8 1 (fun v10 => eI hp a0 10 3 (fun v11 => eA g.2.2.2.1 hp v10 v11 (fun v12 => (¬ v9 = v12 → K 0) ∧ (v9 = v12 → K 1))))))))))))
set_option maxHeartbeats 8000000 in
theorem C_X11_holdsFor {g : qh_G} {x : qc_X} {d : Nat} {sd : String → Nat → Nat} (hO : qc_O g x) (hP : qc_P g qp_ts sd) (a0 : Nat) (a1 : Nat) (a2 : Nat) (hp : qc_H) (K : Int32 → Prop) (hz : T_X11_holdsFor g a0 a1 a2 hp K) : qc_S g x (d + 1) 0 I_X11_holdsFor [.ref a0, .ref a1, .ref a2] hp (oZ (fun v t => hp = t ∧ K v)) := by
  refine qc_S.of (by decide) rfl (ls := [some (.ref a0), some (.ref a1), some (.ref a2)]) rfl (Nat.le_of_ble_eq_true rfl) (ct_c rfl (ct_c rfl (ct_c rfl ct_n))) ?_
  unfold T_X11_holdsFor at hz
  have h := hz
  clear hz
  refine qc_aload_n E_X11_holdsFor (by rfl) dX11_holdsFor_0 ?_
  refine re_getR E_X11_holdsFor rfl ck_X9 (by decide) 1 (by decide) q645 dX11_holdsFor_1 h ?_
  clear h
  intro v1 h
  refine qc_aload_n E_X11_holdsFor (by rfl) dX11_holdsFor_4 ?_
  refine re_getI E_X11_holdsFor rfl ck_X11 (by decide) 1 (by decide) q1171 dX11_holdsFor_5 h ?_
  clear h
  intro v2 h
  refine re_iald E_X11_holdsFor dX11_holdsFor_8 h ?_
  clear h
  intro v3 h
  refine qc_callSN (c := 0) (k := 0) (As := [.int v3]) (rest := []) E_X11_holdsFor rfl M_X1_isNumber rfl (hO.2.1 _ (qj_N q1548 rfl)) q527 rfl rfl (Nat.le_of_ble_eq_true rfl) dX11_holdsFor_9 (qc_S.mono ?_ (C_X1_isNumber (d := d) hO hP v3 hp _ h))
  clear h
  rintro _ _ ⟨r4, rfl, z5, rfl, h⟩
  refine K1_i ?_
  refine qc_if_eq E_X11_holdsFor 40 dX11_holdsFor_12 (by decide) (fun (c6 : r4 = 0) => ?_) (fun (c6 : ¬ r4 = 0) => ?_)
  · replace h := h.1 c6
    refine qc_iconst E_X11_holdsFor 0 (by decide) dX11_holdsFor_40 ?_
    exact qc_zret E_X11_holdsFor rfl (qm_nb (Or.inl rfl)) dX11_holdsFor_41 (⟨_, rfl, (Or.inl rfl), rfl, h⟩)
  · replace h := h.2 c6
    refine qc_aload_n E_X11_holdsFor (by rfl) dX11_holdsFor_15 ?_
    refine re_getR E_X11_holdsFor rfl ck_X9 (by decide) 1 (by decide) q645 dX11_holdsFor_16 h ?_
    clear h
    intro v7 h
    refine qc_aload_n E_X11_holdsFor (by rfl) dX11_holdsFor_19 ?_
    refine re_getI E_X11_holdsFor rfl ck_X11 (by decide) 1 (by decide) q1171 dX11_holdsFor_20 h ?_
    clear h
    intro v8 h
    refine re_iald E_X11_holdsFor dX11_holdsFor_23 h ?_
    clear h
    intro v9 h
    refine qc_aload_n E_X11_holdsFor (by rfl) dX11_holdsFor_24 ?_
    refine re_getR E_X11_holdsFor rfl ck_X9 (by decide) 1 (by decide) q645 dX11_holdsFor_25 h ?_
    clear h
    intro v10 h
    refine qc_aload_n E_X11_holdsFor (by rfl) dX11_holdsFor_28 ?_
    refine re_getI E_X11_holdsFor rfl ck_X11 (by decide) 3 (by decide) q1174 dX11_holdsFor_29 h ?_
    clear h
    intro v11 h
    refine re_iald E_X11_holdsFor dX11_holdsFor_32 h ?_
    clear h
    intro v12 h
    refine qc_icmp_ne E_X11_holdsFor 40 dX11_holdsFor_33 (by decide) (fun (c13 : ¬ v9 = v12) => ?_) (fun (c13 : v9 = v12) => ?_)
    · replace h := h.1 c13
      refine qc_iconst E_X11_holdsFor 0 (by decide) dX11_holdsFor_40 ?_
      exact qc_zret E_X11_holdsFor rfl (qm_nb (Or.inl rfl)) dX11_holdsFor_41 (⟨_, rfl, (Or.inl rfl), rfl, h⟩)
    · replace h := h.2 c13
      refine qc_iconst E_X11_holdsFor 1 (by decide) dX11_holdsFor_36 ?_
      refine qc_goto E_X11_holdsFor 41 dX11_holdsFor_37 (by decide) ?_
      exact qc_zret E_X11_holdsFor rfl (qm_nb (Or.inr rfl)) dX11_holdsFor_41 (⟨_, rfl, (Or.inr rfl), rfl, h⟩)
def I_X1_areLinked : qh_I := (yX1_areLinked, cX1_areLinked, 6, (Option.some Jvm.ClassFile.FieldType.boolean), [])
theorem E_X1_areLinked : I_X1_areLinked.2.1 = cX1_areLinked := rfl
theorem M_X1_areLinked : qh_M I_X1_areLinked 2 := ⟨by decide, by decide, by decide +kernel, q85, q1543, by decide⟩
def T_X1_areLinked (g : qh_G) (a0 : Nat) (a1 : Nat) (a2 : Int32) (hp : qc_H) (K : Int32 → Prop) : Prop := ∀ X1 : Int32 → Int32 → Prop, (∀ (x2 : Int32) (x3 : Int32), (eR hp a0 0 6 (fun v4 => eSz hp v4 (fun n5 => (n5 ≤ x3 → (x2 = 0 ∨ x2 = 1) ∧ K x2) ∧ (¬ n5 ≤ x3 → eR hp a0 0 6 (fun v8 => eGt hp v8 x3 (fun p9 => eC hp p9 10 (eI hp p9 10 2 (fun v10 => ∀ J18 : Int32 → Prop, (∀ (x19 : Int32), (X1 (x2 &&& x19) (x3 + 1)) → J18 x19) → (¬ v10 = a2 → J18 1) ∧ (v10 = a2 → eI hp p9 10 0 (fun v12 => eQ g.2.2.2.1 6 hp a1 v12 (fun v13 => eQ g.2.2.2.1 6 hp a1 a2 (fun v14 => eC hp p9 10 (T_X11_holdsFor g p9 v13 v14 hp (fun r15 => (r15 = 0 → J18 0) ∧ (¬ r15 = 0 → J18 1))))))))))))))) → X1 x2 x3) → X1 1 0
set_option maxHeartbeats 8000000 in
theorem C_X1_areLinked {g : qh_G} {x : qc_X} {d : Nat} {sd : String → Nat → Nat} (hO : qc_O g x) (hP : qc_P g qp_ts sd) (a0 : Nat) (a1 : Nat) (a2 : Int32) (hp : qc_H) (K : Int32 → Prop) (hz : T_X1_areLinked g a0 a1 a2 hp K) : qc_S g x (d + 6) 0 I_X1_areLinked [.ref a0, .ref a1, .int a2] hp (oZ (fun v t => hp = t ∧ K v)) := by
  refine qc_S.of (by decide) rfl (ls := [some (.ref a0), some (.ref a1), some (.int a2), none, none, none]) rfl (Nat.le_of_ble_eq_true rfl) (ct_c rfl (ct_c rfl (ct_c rfl ct_n))) ?_
  unfold T_X1_areLinked at hz
  have h := hz
  clear hz
  refine qc_iconst E_X1_areLinked 1 (by decide) dX1_areLinked_0 ?_
  refine qc_istore_n E_X1_areLinked (by decide) dX1_areLinked_1 ?_
  refine qc_iconst E_X1_areLinked 0 (by decide) dX1_areLinked_2 ?_
  refine qc_istore E_X1_areLinked (by decide) dX1_areLinked_3 ?_
  refine h (fun (x2 : Int32) (x3 : Int32) => qc_wp g x (d + 6) 0 I_X1_areLinked 5 [some (.ref a0), some (.ref a1), some (.int a2), some (.int x2), some (.int x3), none] [] hp (oZ (fun v t => hp = t ∧ K v))) ?_
  clear h
  intro x2 x3 h
  refine qc_iload E_X1_areLinked (by rfl) dX1_areLinked_5 ?_
  refine qc_aload_n E_X1_areLinked (by rfl) dX1_areLinked_7 ?_
  refine re_getR E_X1_areLinked rfl ck_X1 (by decide) 6 (by decide) q306 dX1_areLinked_8 h ?_
  clear h
  intro v4 h
  refine re_size (d := d) hO E_X1_areLinked rfl q366 (Nat.le_of_ble_eq_true rfl) dX1_areLinked_11 h ?_
  clear h
  intro n5 h
  refine qc_icmp_ge E_X1_areLinked 72 dX1_areLinked_14 (by decide) (fun (c6 : n5 ≤ x3) => ?_) (fun (c6 : ¬ n5 ≤ x3) => ?_)
  · replace h := h.1 c6
    refine qc_iload_n E_X1_areLinked (by rfl) dX1_areLinked_72 ?_
    obtain ⟨o7, h⟩ := h
    exact qc_zret E_X1_areLinked rfl (qm_nb o7) dX1_areLinked_73 (⟨_, rfl, o7, rfl, h⟩)
  · replace h := h.2 c6
    refine qc_aload_n E_X1_areLinked (by rfl) dX1_areLinked_17 ?_
    refine re_getR E_X1_areLinked rfl ck_X1 (by decide) 6 (by decide) q306 dX1_areLinked_18 h ?_
    clear h
    intro v8 h
    refine qc_iload E_X1_areLinked (by rfl) dX1_areLinked_21 ?_
    refine re_get (d := d) hO E_X1_areLinked rfl q1013 (Nat.le_of_ble_eq_true rfl) dX1_areLinked_23 h ?_
    clear h
    intro p9 h
    refine re_castS (ci := 10) hO E_X1_areLinked rfl rfl q1163 dX1_areLinked_26 h ?_
    clear h
    intro h
    refine qc_astore E_X1_areLinked (by decide) dX1_areLinked_29 ?_
    refine qc_iload_n E_X1_areLinked (by rfl) dX1_areLinked_31 ?_
    refine qc_aload E_X1_areLinked (by rfl) dX1_areLinked_32 ?_
    refine re_getI E_X1_areLinked rfl ck_X11 (by decide) 2 (by decide) q1173 dX1_areLinked_34 h ?_
    clear h
    intro v10 h
    refine qc_iload_n E_X1_areLinked (by rfl) dX1_areLinked_37 ?_
    have jz := h (fun (x19 : Int32) => qc_wp g x (d + 6) 0 I_X1_areLinked 64 [some (.ref a0), some (.ref a1), some (.int a2), none, some (.int x3), none] [.int x19, .int x2] hp (oZ (fun v t => hp = t ∧ K v)))
    clear h
    have h := jz (by
      intro x19 h
      refine qc_iand E_X1_areLinked dX1_areLinked_64 ?_
      refine qc_istore_n E_X1_areLinked (by decide) dX1_areLinked_65 ?_
      refine qc_iinc E_X1_areLinked 1 rfl (by decide) (by decide) dX1_areLinked_66 ?_
      refine qc_goto E_X1_areLinked 5 dX1_areLinked_69 (by decide) ?_
      exact h)
    clear jz
    refine qc_icmp_ne E_X1_areLinked 59 dX1_areLinked_38 (by decide) (fun (c11 : ¬ v10 = a2) => ?_) (fun (c11 : v10 = a2) => ?_)
    · replace h := h.1 c11
      refine qc_iconst E_X1_areLinked 1 (by decide) dX1_areLinked_59 ?_
      refine qc_goto E_X1_areLinked 64 dX1_areLinked_60 (by decide) ?_
      refine qc_drop 3 ?_
      refine qc_drop 5 ?_
      exact h
    · replace h := h.2 c11
      refine qc_aload E_X1_areLinked (by rfl) dX1_areLinked_41 ?_
      refine qc_aload_n E_X1_areLinked (by rfl) dX1_areLinked_43 ?_
      refine qc_aload E_X1_areLinked (by rfl) dX1_areLinked_44 ?_
      refine re_getI E_X1_areLinked rfl ck_X11 (by decide) 0 (by decide) q1170 dX1_areLinked_46 h ?_
      clear h
      intro v12 h
      refine re_aald 6 (fun _ => rfl) E_X1_areLinked dX1_areLinked_49 h ?_
      clear h
      intro v13 h
      refine qc_aload_n E_X1_areLinked (by rfl) dX1_areLinked_50 ?_
      refine qc_iload_n E_X1_areLinked (by rfl) dX1_areLinked_51 ?_
      refine re_aald 6 (fun _ => rfl) E_X1_areLinked dX1_areLinked_52 h ?_
      clear h
      intro v14 h
      obtain ⟨⟨fz, hb⟩, h⟩ := h
      refine qc_callV (c := 0) (k := 0) (As := [.ref v13, .ref v14]) (rest := [.int x2]) hO E_X1_areLinked rfl M_X11_holdsFor rfl q1544 q1545 q1546 (ci := 10) rfl rfl hb rfl rfl (Nat.le_of_ble_eq_true rfl) dX1_areLinked_53 (qc_S.mono ?_ (C_X11_holdsFor (d := d + 4) hO hP p9 v13 v14 hp _ h))
      clear h
      clear hb
      rintro _ _ ⟨r15, rfl, z16, rfl, h⟩
      refine K1_i ?_
      refine qc_if_eq E_X1_areLinked 63 dX1_areLinked_56 (by decide) (fun (c17 : r15 = 0) => ?_) (fun (c17 : ¬ r15 = 0) => ?_)
      · replace h := h.1 c17
        refine qc_iconst E_X1_areLinked 0 (by decide) dX1_areLinked_63 ?_
        refine qc_drop 3 ?_
        refine qc_drop 5 ?_
        exact h
      · replace h := h.2 c17
        refine qc_iconst E_X1_areLinked 1 (by decide) dX1_areLinked_59 ?_
        refine qc_goto E_X1_areLinked 64 dX1_areLinked_60 (by decide) ?_
        refine qc_drop 3 ?_
        refine qc_drop 5 ?_
        exact h
def I_X1_step : qh_I := (yX1_step, cX1_step, 6, (Option.none : Option Jvm.ClassFile.FieldType), [])
theorem E_X1_step : I_X1_step.2.1 = cX1_step := rfl
theorem M_X1_step : qh_M I_X1_step 4 := ⟨by decide, by decide, by decide +kernel, q85, q1531, by decide⟩
def T_X1_step : Nat → qh_G → Nat → Nat → Nat → Int32 → Nat → qc_H → Nat → (qc_H → Prop) → Prop
  | 0 => fun _ _ _ _ _ _ _ _ _ => False
  | n + 1 => fun g a0 a1 a2 a3 a4 hp c K => eSz hp a1 (fun n1 => (¬ a3 = n1 → ∀ X3 : Int32 → qc_H → Nat → Prop, (∀ (x4 : Int32) (h5 : qc_H) (c6 : Nat), (eGt h5 a1 a3 (fun p7 => eCL h5 p7 (eSz h5 p7 (fun n8 => (n8 ≤ x4 → K h5) ∧ (¬ n8 ≤ x4 → eGt h5 a1 a3 (fun p10 => eCL h5 p10 (eGt h5 p10 x4 (fun p11 => eC h5 p11 8 (eV g.2.2.2.1 6 8 h5 a2 a3 p11 (fun h12 => eC h12 a0 0 (T_X1_areLinked g a0 a2 a3 h12 (fun r13 => (r13 = 0 → X3 (x4 + 1) h12 c6) ∧ (¬ r13 = 0 → eC h12 a0 0 (eK c6 (fun c17 k16 => T_X1_step n g a0 a1 a2 (a3 + 1) a4 h12 k16 (fun h18 => X3 (x4 + 1) h18 c17)))))))))))))))) → X3 x4 h5 c6) → X3 0 hp c) ∧ (a3 = n1 → eC hp a0 0 (eK c (fun c20 k19 => T_X1_tell g a0 a2 a4 hp k19 (fun h21 => K h21)))))
set_option maxHeartbeats 8000000 in
theorem R_X1_step {g : qh_G} {x : qc_X} {d : Nat} {sd : String → Nat → Nat} (hO : qc_O g x) (hP : qc_P g qp_ts sd) : ∀ n : Nat, ∀ (a0 : Nat) (a1 : Nat) (a2 : Nat) (a3 : Int32) (a4 : Nat) (hp : qc_H) (c : Nat) (K : qc_H → Prop), T_X1_step n g a0 a1 a2 a3 a4 hp c K → qc_S g x (d + n + 7) c I_X1_step [.ref a0, .ref a1, .ref a2, .int a3, .ref a4] hp (oV K)
  | 0 => fun _ _ _ _ _ _ _ _ z => z.elim
  | n + 1 => by
    have ih := R_X1_step (d := d) hO hP n
    intro a0 a1 a2 a3 a4 hp c K hz
    refine qc_S.of (by decide) rfl (ls := [some (.ref a0), some (.ref a1), some (.ref a2), some (.int a3), some (.ref a4), none]) rfl (Nat.le_of_ble_eq_true rfl) (ct_c rfl (ct_c rfl (ct_c rfl (ct_c rfl (ct_c rfl ct_n))))) ?_
    show qc_wp g x (d + n + 1 + 7) _ _ _ _ _ _ _
    simp only [T_X1_step] at hz
    have h := hz
    clear hz
    refine qc_iload_n E_X1_step (by rfl) dX1_step_0 ?_
    refine qc_aload_n E_X1_step (by rfl) dX1_step_1 ?_
    refine re_size (d := d + n + 1 + 1) hO E_X1_step rfl q366 (Nat.le_of_ble_eq_true rfl) dX1_step_2 h ?_
    clear h
    intro n1 h
    refine qc_icmp_ne E_X1_step 16 dX1_step_5 (by decide) (fun (c2 : ¬ a3 = n1) => ?_) (fun (c2 : a3 = n1) => ?_)
    · replace h := h.1 c2
      refine qc_iconst E_X1_step 0 (by decide) dX1_step_16 ?_
      refine qc_istore E_X1_step (by decide) dX1_step_17 ?_
      refine h (fun (x4 : Int32) (h5 : qc_H) (c6 : Nat) => qc_wp g x (d + n + 1 + 7) c6 I_X1_step 19 [some (.ref a0), some (.ref a1), some (.ref a2), some (.int a3), some (.ref a4), some (.int x4)] [] h5 (oV K)) ?_
      clear h
      intro x4 h5 c6 h
      refine qc_iload E_X1_step (by rfl) dX1_step_19 ?_
      refine qc_aload_n E_X1_step (by rfl) dX1_step_21 ?_
      refine qc_iload_n E_X1_step (by rfl) dX1_step_22 ?_
      refine re_get (d := d + n + 1 + 1) hO E_X1_step rfl q1013 (Nat.le_of_ble_eq_true rfl) dX1_step_23 h ?_
      clear h
      intro p7 h
      refine re_castL E_X1_step rfl q204 dX1_step_26 h ?_
      clear h
      intro h
      refine re_size (d := d + n + 1 + 1) hO E_X1_step rfl q366 (Nat.le_of_ble_eq_true rfl) dX1_step_29 h ?_
      clear h
      intro n8 h
      refine qc_icmp_ge E_X1_step 80 dX1_step_32 (by decide) (fun (c9 : n8 ≤ x4) => ?_) (fun (c9 : ¬ n8 ≤ x4) => ?_)
      · replace h := h.1 c9
        exact qc_vret E_X1_step rfl dX1_step_80 (⟨rfl, h⟩)
      · replace h := h.2 c9
        refine qc_aload_n E_X1_step (by rfl) dX1_step_35 ?_
        refine qc_iload_n E_X1_step (by rfl) dX1_step_36 ?_
        refine qc_aload_n E_X1_step (by rfl) dX1_step_37 ?_
        refine qc_iload_n E_X1_step (by rfl) dX1_step_38 ?_
        refine re_get (d := d + n + 1 + 1) hO E_X1_step rfl q1013 (Nat.le_of_ble_eq_true rfl) dX1_step_39 h ?_
        clear h
        intro p10 h
        refine re_castL E_X1_step rfl q204 dX1_step_42 h ?_
        clear h
        intro h
        refine qc_iload E_X1_step (by rfl) dX1_step_45 ?_
        refine re_get (d := d + n + 1 + 1) hO E_X1_step rfl q1013 (Nat.le_of_ble_eq_true rfl) dX1_step_47 h ?_
        clear h
        intro p11 h
        refine re_castS (ci := 8) hO E_X1_step rfl rfl q633 dX1_step_50 h ?_
        clear h
        intro h
        refine re_aast (fun _ => rfl) (ci := 8) rfl (by decide) E_X1_step dX1_step_53 h ?_
        clear h
        intro h12 h
        refine qc_aload_n E_X1_step (by rfl) dX1_step_54 ?_
        refine qc_aload_n E_X1_step (by rfl) dX1_step_55 ?_
        refine qc_iload_n E_X1_step (by rfl) dX1_step_56 ?_
        obtain ⟨⟨fz, hb⟩, h⟩ := h
        refine qc_callV (c := c6) (k := 0) (As := [.ref a2, .int a3]) (rest := []) hO E_X1_step rfl M_X1_areLinked rfl q1540 q1542 qs27 (ci := 0) rfl rfl hb rfl rfl (Nat.le_of_ble_eq_true rfl) dX1_step_57 (qc_S.mono ?_ (C_X1_areLinked (d := d + n + 1) hO hP a0 a2 a3 h12 _ h))
        clear h
        clear hb
        rintro _ _ ⟨r13, rfl, z14, rfl, h⟩
        refine K1_i ?_
        refine qc_if_eq E_X1_step 74 dX1_step_60 (by decide) (fun (c15 : r13 = 0) => ?_) (fun (c15 : ¬ r13 = 0) => ?_)
        · replace h := h.1 c15
          refine qc_iinc E_X1_step 1 rfl (by decide) (by decide) dX1_step_74 ?_
          refine qc_goto E_X1_step 19 dX1_step_77 (by decide) ?_
          exact h
        · replace h := h.2 c15
          refine qc_aload_n E_X1_step (by rfl) dX1_step_63 ?_
          refine qc_aload_n E_X1_step (by rfl) dX1_step_64 ?_
          refine qc_aload_n E_X1_step (by rfl) dX1_step_65 ?_
          refine qc_iload_n E_X1_step (by rfl) dX1_step_66 ?_
          refine qc_iconst E_X1_step 1 (by decide) dX1_step_67 ?_
          refine qc_iadd E_X1_step dX1_step_68 ?_
          refine qc_aload E_X1_step (by rfl) dX1_step_69 ?_
          obtain ⟨⟨fz, hb⟩, c17, k16, rfl, h⟩ := h
          refine qc_callV (c := c17) (k := k16) (As := [.ref a1, .ref a2, .int (a3 + 1), .ref a4]) (rest := []) hO E_X1_step rfl M_X1_step rfl q1528 q1530 qs25 (ci := 0) rfl rfl hb rfl rfl (Nat.le_of_ble_eq_true rfl) dX1_step_71 (qc_S.mono ?_ (ih a0 a1 a2 (a3 + 1) a4 h12 k16 _ h))
          clear h
          clear hb
          rintro _ h18 ⟨rfl, h⟩
          refine K1_v ?_
          refine qc_iinc E_X1_step 1 rfl (by decide) (by decide) dX1_step_74 ?_
          refine qc_goto E_X1_step 19 dX1_step_77 (by decide) ?_
          exact h
    · replace h := h.2 c2
      refine qc_aload_n E_X1_step (by rfl) dX1_step_8 ?_
      refine qc_aload_n E_X1_step (by rfl) dX1_step_9 ?_
      refine qc_aload E_X1_step (by rfl) dX1_step_10 ?_
      obtain ⟨⟨fz, hb⟩, c20, k19, rfl, h⟩ := h
      refine qc_callV (c := c20) (k := k19) (As := [.ref a2, .ref a4]) (rest := []) hO E_X1_step rfl M_X1_tell rfl q1532 q1534 qs26 (ci := 0) rfl rfl hb rfl rfl (Nat.le_of_ble_eq_true rfl) dX1_step_12 (qc_S.mono ?_ (C_X1_tell (d := d + n + 1) hO hP a0 a2 a4 hp k19 _ h))
      clear h
      clear hb
      rintro _ h21 ⟨rfl, h⟩
      refine K1_v ?_
      exact qc_vret E_X1_step rfl dX1_step_15 (⟨rfl, h⟩)
theorem C_X1_step {g : qh_G} {x : qc_X} {d : Nat} {sd : String → Nat → Nat} (n9 : Nat) (hO : qc_O g x) (hP : qc_P g qp_ts sd) (a0 : Nat) (a1 : Nat) (a2 : Nat) (a3 : Int32) (a4 : Nat) (hp : qc_H) (c : Nat) (K : qc_H → Prop) (hz : T_X1_step 5 g a0 a1 a2 a3 a4 hp c K) : qc_S g x (d + 12) c I_X1_step [.ref a0, .ref a1, .ref a2, .int a3, .ref a4] hp (oV K) := by
  have h := R_X1_step (d := d) hO hP 5 a0 a1 a2 a3 a4 hp c K hz
  exact h
def I_X1_walk : qh_I := (yX1_walk, cX1_walk, 4, (Option.none : Option Jvm.ClassFile.FieldType), [])
theorem E_X1_walk : I_X1_walk.2.1 = cX1_walk := rfl
theorem M_X1_walk : qh_M I_X1_walk 2 := ⟨by decide, by decide, by decide +kernel, q85, q1526, by decide⟩
def T_X1_walk (g : qh_G) (a0 : Nat) (a1 : Nat) (a2 : Nat) (hp : qc_H) (c : Nat) (K : qc_H → Prop) : Prop := eNQ g.2.2.2.1 6 hp 3 c (fun w1 h2 c3 => eC h2 a0 0 (eK c3 (fun c5 k4 => T_X1_step 5 g a0 a1 w1 0 a2 h2 k4 (fun h6 => K h6))))
set_option maxHeartbeats 8000000 in
theorem C_X1_walk {g : qh_G} {x : qc_X} {d : Nat} {sd : String → Nat → Nat} (hO : qc_O g x) (hP : qc_P g qp_ts sd) (a0 : Nat) (a1 : Nat) (a2 : Nat) (hp : qc_H) (c : Nat) (K : qc_H → Prop) (hz : T_X1_walk g a0 a1 a2 hp c K) : qc_S g x (d + 13) c I_X1_walk [.ref a0, .ref a1, .ref a2] hp (oV K) := by
  refine qc_S.of (by decide) rfl (ls := [some (.ref a0), some (.ref a1), some (.ref a2), none]) rfl (Nat.le_of_ble_eq_true rfl) (ct_c rfl (ct_c rfl (ct_c rfl ct_n))) ?_
  unfold T_X1_walk at hz
  have h := hz
  clear hz
  refine qc_iconst E_X1_walk 3 (by decide) dX1_walk_0 ?_
  refine re_newQ hO 6 (fun _ => rfl) E_X1_walk rfl q633 (qj_N q1527 rfl) dX1_walk_1 h ?_
  clear h
  intro w1 h2 c3 h
  refine qc_astore_n E_X1_walk (by decide) dX1_walk_4 ?_
  refine qc_aload_n E_X1_walk (by rfl) dX1_walk_5 ?_
  refine qc_aload_n E_X1_walk (by rfl) dX1_walk_6 ?_
  refine qc_aload_n E_X1_walk (by rfl) dX1_walk_7 ?_
  refine qc_iconst E_X1_walk 0 (by decide) dX1_walk_8 ?_
  refine qc_aload_n E_X1_walk (by rfl) dX1_walk_9 ?_
  obtain ⟨⟨fz, hb⟩, c5, k4, rfl, h⟩ := h
  refine qc_callV (c := c5) (k := k4) (As := [.ref a1, .ref w1, .int 0, .ref a2]) (rest := []) hO E_X1_walk rfl M_X1_step rfl q1528 q1530 qs25 (ci := 0) rfl rfl hb rfl rfl (Nat.le_of_ble_eq_true rfl) dX1_walk_10 (qc_S.mono ?_ (C_X1_step (d := d) 5 hO hP a0 a1 w1 0 a2 h2 k4 _ h))
  clear h
  clear hb
  rintro _ h6 ⟨rfl, h⟩
  refine K1_v ?_
  exact qc_vret E_X1_walk rfl dX1_walk_13 (⟨rfl, h⟩)
def I_X1_cut : qh_I := (yX1_cut, cX1_cut, 2, (Option.none : Option Jvm.ClassFile.FieldType), [])
theorem E_X1_cut : I_X1_cut.2.1 = cX1_cut := rfl
theorem M_X1_cut : qh_M I_X1_cut 1 := ⟨by decide, by decide, by decide +kernel, q85, q1552, by decide⟩
def T_X1_cut (g : qh_G) (a0 : Nat) (a1 : Nat) (hp : qc_H) (K : qc_H → Prop) : Prop := ∀ X1 : qc_H → Prop, (∀ (h2 : qc_H), (eR h2 a1 5 0 (fun v3 => eSz h2 v3 (fun n4 => eI h2 a0 0 10 (fun v5 => (n4 ≤ v5 → K h2) ∧ (¬ n4 ≤ v5 → eR h2 a1 5 0 (fun v7 => eR h2 a1 5 0 (fun v8 => eSz h2 v8 (fun n9 => eRm h2 v7 (n9 - 1) (fun p11 h10 => X1 h10))))))))) → X1 h2) → X1 hp
set_option maxHeartbeats 8000000 in
theorem C_X1_cut {g : qh_G} {x : qc_X} {d : Nat} {sd : String → Nat → Nat} (hO : qc_O g x) (hP : qc_P g qp_ts sd) (a0 : Nat) (a1 : Nat) (hp : qc_H) (K : qc_H → Prop) (hz : T_X1_cut g a0 a1 hp K) : qc_S g x (d + 6) 0 I_X1_cut [.ref a0, .ref a1] hp (oV K) := by
  refine qc_S.of (by decide) rfl (ls := [some (.ref a0), some (.ref a1)]) rfl (Nat.le_of_ble_eq_true rfl) (ct_c rfl (ct_c rfl ct_n)) ?_
  unfold T_X1_cut at hz
  have h := hz
  clear hz
  refine h (fun (h2 : qc_H) => qc_wp g x (d + 6) 0 I_X1_cut 0 [some (.ref a0), some (.ref a1)] [] h2 (oV K)) ?_
  clear h
  intro h2 h
  refine qc_aload_n E_X1_cut (by rfl) dX1_cut_0 ?_
  refine re_getR E_X1_cut rfl ck_X6 (by decide) 0 (by decide) q240 dX1_cut_1 h ?_
  clear h
  intro v3 h
  refine re_size (d := d) hO E_X1_cut rfl q366 (Nat.le_of_ble_eq_true rfl) dX1_cut_4 h ?_
  clear h
  intro n4 h
  refine qc_aload_n E_X1_cut (by rfl) dX1_cut_7 ?_
  refine re_getI E_X1_cut rfl ck_X1 (by decide) 10 (by decide) q311 dX1_cut_8 h ?_
  clear h
  intro v5 h
  refine qc_icmp_le E_X1_cut 34 dX1_cut_11 (by decide) (fun (c6 : n4 ≤ v5) => ?_) (fun (c6 : ¬ n4 ≤ v5) => ?_)
  · replace h := h.1 c6
    exact qc_vret E_X1_cut rfl dX1_cut_34 (⟨rfl, h⟩)
  · replace h := h.2 c6
    refine qc_aload_n E_X1_cut (by rfl) dX1_cut_14 ?_
    refine re_getR E_X1_cut rfl ck_X6 (by decide) 0 (by decide) q240 dX1_cut_15 h ?_
    clear h
    intro v7 h
    refine qc_aload_n E_X1_cut (by rfl) dX1_cut_18 ?_
    refine re_getR E_X1_cut rfl ck_X6 (by decide) 0 (by decide) q240 dX1_cut_19 h ?_
    clear h
    intro v8 h
    refine re_size (d := d) hO E_X1_cut rfl q366 (Nat.le_of_ble_eq_true rfl) dX1_cut_22 h ?_
    clear h
    intro n9 h
    refine qc_iconst E_X1_cut 1 (by decide) dX1_cut_25 ?_
    refine qc_isub E_X1_cut dX1_cut_26 ?_
    refine re_remove (d := d) hO E_X1_cut rfl q1014 (Nat.le_of_ble_eq_true rfl) dX1_cut_27 h ?_
    clear h
    intro p11 h10 h
    refine qc_pop E_X1_cut rfl dX1_cut_30 ?_
    refine qc_goto E_X1_cut 0 dX1_cut_31 (by decide) ?_
    exact h
def I_X1_ask : qh_I := (yX1_ask, cX1_ask, 12, (Option.some Jvm.ClassFile.FieldType.int), [])
theorem E_X1_ask : I_X1_ask.2.1 = cX1_ask := rfl
theorem M_X1_ask : qh_M I_X1_ask 2 := ⟨by decide, by decide, by decide +kernel, q85, q1249, by decide⟩
def T_X1_ask (g : qh_G) (a0 : Nat) (a1 : Int32) (a2 : Int32) (hp : qc_H) (c : Nat) (K : Int32 → qc_H → Prop) (KX : String → qc_H → Prop) : Prop := eK c (fun c2 k1 => T_X1_inRange g a1 0 200 hp k1 (eK c2 (fun c4 k3 => T_X1_inRange g a2 0 200 hp k3 (eR hp a0 0 5 (fun v5 => eEm hp v5 (fun n6 => ∀ J11 : Int32 → Prop, (∀ (x12 : Int32), (eK c4 (fun c14 k13 => T_X1_allowed g x12 hp k13 (eN hp c14 5 7 [.null, .null, .int 0, .int 0, .int 0, .int 0, .int 0] (fun w15 h16 c17 => eK c17 (fun c19 k18 => T_X6_init g w15 h16 k18 (fun h20 => eP h20 a0 0 12 (.ref w15) (fun h21 => eI h21 a0 0 15 (fun v22 => eR h21 a0 0 5 (fun v23 => eSz h21 v23 (fun n24 => eNQ g.2.2.2.1 7 h21 n24 c19 (fun w25 h26 c27 => ∀ X28 : Int32 → qc_H → Nat → Prop, (∀ (x29 : Int32) (h30 : qc_H) (c31 : Nat), (eT g.2.2.2.1 7 h30 w25 (fun v32 => (v32 ≤ x29 → ∀ X34 : Int32 → qc_H → Nat → Prop, (∀ (x35 : Int32) (h36 : qc_H) (c37 : Nat), (eT g.2.2.2.1 7 h36 w25 (fun v38 => (v38 ≤ x35 → eNL h36 c37 (fun w40 h41 c42 => eI h41 a0 0 14 (fun v43 => eT g.2.2.2.1 7 h41 w25 (fun v44 => ∀ X45 : Int32 → Int32 → Int32 → qc_H → Nat → Prop, (∀ (x46 : Int32) (x47 : Int32) (x48 : Int32) (h49 : qc_H) (c50 : Nat), ((v44 ≤ x48 → eR h49 a0 0 12 (fun v52 => eR h49 a0 0 12 (fun v53 => eI h49 v53 5 2 (fun v54 => ∀ J57 : Int32 → Prop, (∀ (x58 : Int32), (eP h49 v52 5 3 (.int x58) (fun h59 => eR h59 a0 0 12 (fun v60 => eC h59 a0 0 (eK c50 (fun c62 k61 => T_X1_walk g a0 w40 v60 h59 k61 (fun h63 => eR h63 a0 0 12 (fun v64 => eC h63 a0 0 (T_X1_cut g a0 v64 h63 (fun h65 => eR h65 a0 0 12 (fun v66 => eR h65 v66 5 0 (fun v67 => eSz h65 v67 (fun n68 => K n68 h65)))))))))))) → J57 x58) → (¬ v54 = 0 → J57 ((-1))) ∧ (v54 = 0 → (x47 < x46 → J57 ((-1))) ∧ (¬ x47 < x46 → J57 x47)))))) ∧ (¬ v44 ≤ x48 → eQ g.2.2.2.1 7 h49 w25 x48 (fun v69 => eR h49 v69 13 4 (fun v70 => eAd g h49 w40 v70 c50 (fun h71 c72 => eR h71 a0 0 12 (fun v73 => eI h71 v73 5 2 (fun v74 => eI h71 v69 13 6 (fun v75 => ∀ J78 : Int32 → Prop, (∀ (x79 : Int32), (eP h71 v73 5 2 (.int (v74 ||| x79)) (fun h80 => eR h80 v69 13 1 (fun v81 => eI h80 v69 13 8 (fun v82 => eC h80 v81 6 (T_X7_since g v81 v82 h80 (fun r83 => ∀ u84 : Int32, u84 = (if x46 < r83 then r83 else x46) → eR h80 v69 13 1 (fun v85 => eI h80 v69 13 8 (fun v86 => eI h80 a0 0 14 (fun v87 => eC h80 v85 6 (T_X7_until g v85 v86 v87 h80 (fun r88 => ∀ u89 : Int32, u89 = (if r88 < x47 then r88 else x47) → X45 u84 u89 (x48 + 1) h80 c72))))))))))) → J78 x79) → (v75 = 0 → J78 0) ∧ (¬ v75 = 0 → eI h71 v69 13 0 (fun v77 => J78 (1 <<< (v77 &&& 31)))))))))))) → X45 x46 x47 x48 h49 c50) → X45 0 v43 0 h41 c42)))) ∧ (¬ v38 ≤ x35 → eC h36 a0 0 (T_X1_next g a0 w25 h36 (fun r90 => ∃ y91 : Nat, r90 = some y91 ∧ eC h36 a0 0 (eK c37 (fun c93 k92 => T_X1_take g a0 y91 w25 a1 v22 a2 h36 k92 (fun h94 => eR h94 a0 0 12 (fun v95 => eR h94 v95 5 1 (fun v96 => eI h94 y91 13 0 (fun v97 => eI h94 y91 13 7 (fun v98 => eBx h94 ((10 * v97) + v98) c93 (fun w101 h99 c100 => eAd g h99 v96 w101 c100 (fun h102 c103 => X34 (x35 + 1) h102 c103)))))))))))))) → X34 x35 h36 c37) → X34 0 h30 c31) ∧ (¬ v32 ≤ x29 → eN h30 c31 13 11 [.int 0, .null, .null, .null, .null, .int 0, .int 0, .int 0, .int 0, .int 0, .null] (fun w104 h105 c106 => eK c106 (fun c108 k107 => T_X14_init g w104 a0 x29 h105 k107 (fun h109 => eV g.2.2.2.1 7 13 h109 w25 x29 w104 (fun h110 => X28 (x29 + 1) h110 c108))))))) → X28 x29 h30 c31) → X28 0 h26 c27))))))))) (fun Ez => KX Ez hp))) → J11 x12) → (¬ n6 = 0 → J11 0) ∧ (n6 = 0 → eR hp a0 0 8 (fun v8 => eEm hp v8 (fun n9 => (¬ n9 = 0 → J11 0) ∧ (n9 = 0 → J11 1))))))) (fun Ez => KX Ez hp))) (fun Ez => KX Ez hp))
set_option maxHeartbeats 8000000 in
theorem C_X1_ask {g : qh_G} {x : qc_X} {d : Nat} {sd : String → Nat → Nat} (hO : qc_O g x) (hP : qc_P g qp_ts sd) (a0 : Nat) (a1 : Int32) (a2 : Int32) (hp : qc_H) (c : Nat) (K : Int32 → qc_H → Prop) (KX : String → qc_H → Prop) (hz : T_X1_ask g a0 a1 a2 hp c K KX) : qc_S g x (d + 14) c I_X1_ask [.ref a0, .int a1, .int a2] hp (oX (oI K) KX) := by
  refine qc_S.of (by decide) rfl (ls := [some (.ref a0), some (.int a1), some (.int a2), none, none, none, none, none, none, none, none, none]) rfl (Nat.le_of_ble_eq_true rfl) (ct_c rfl (ct_c rfl (ct_c rfl ct_n))) ?_
  unfold T_X1_ask at hz
  have h := hz
  clear hz
  refine qc_iload_n E_X1_ask (by rfl) dX1_ask_0 ?_
  refine qc_iconst E_X1_ask 0 (by decide) dX1_ask_1 ?_
  refine qc_sipush E_X1_ask 200 (by decide) dX1_ask_2 ?_
  obtain ⟨c2, k1, rfl, h⟩ := h
  refine qc_callS (c := c2) (k := k1) (As := [.int a1, .int 0, .int 200]) (rest := []) E_X1_ask rfl M_X1_inRange rfl q1098 q1099 rfl rfl (Nat.le_of_ble_eq_true rfl) dX1_ask_5 (qc_S.mono ?_ (C_X1_inRange (d := d + 12) hO hP a1 0 200 hp k1 _ _ h))
  clear h
  rintro _ tz (hz | hz)
  · obtain ⟨rfl, rfl, h⟩ := hz
    refine K1_v ?_
    refine qc_iload_n E_X1_ask (by rfl) dX1_ask_8 ?_
    refine qc_iconst E_X1_ask 0 (by decide) dX1_ask_9 ?_
    refine qc_sipush E_X1_ask 200 (by decide) dX1_ask_10 ?_
    obtain ⟨c4, k3, rfl, h⟩ := h
    refine qc_callS (c := c4) (k := k3) (As := [.int a2, .int 0, .int 200]) (rest := []) E_X1_ask rfl M_X1_inRange rfl q1098 q1099 rfl rfl (Nat.le_of_ble_eq_true rfl) dX1_ask_13 (qc_S.mono ?_ (C_X1_inRange (d := d + 12) hO hP a2 0 200 hp k3 _ _ h))
    clear h
    rintro _ tz (hz | hz)
    · obtain ⟨rfl, rfl, h⟩ := hz
      refine K1_v ?_
      refine qc_aload_n E_X1_ask (by rfl) dX1_ask_16 ?_
      refine re_getR E_X1_ask rfl ck_X1 (by decide) 5 (by decide) q305 dX1_ask_17 h ?_
      clear h
      intro v5 h
      refine re_empty (d := d + 8) hO E_X1_ask rfl q1250 (Nat.le_of_ble_eq_true rfl) dX1_ask_20 h ?_
      clear h
      intro n6 h
      have jz := h (fun (x12 : Int32) => qc_wp g x (d + 14) c4 I_X1_ask 41 [some (.ref a0), some (.int a1), some (.int a2), none, none, none, none, none, none, none, none, none] [.int x12] hp (oX (oI K) KX))
      clear h
      have h := jz (by
        intro x12 h
        obtain ⟨c14, k13, rfl, h⟩ := h
        refine qc_callS (c := c14) (k := k13) (As := [.int x12]) (rest := []) E_X1_ask rfl M_X1_allowed rfl q594 q595 rfl rfl (Nat.le_of_ble_eq_true rfl) dX1_ask_41 (qc_S.mono ?_ (C_X1_allowed (d := d + 13) hO hP x12 hp k13 _ _ h))
        clear h
        rintro _ tz (hz | hz)
        · obtain ⟨rfl, rfl, h⟩ := hz
          refine K1_v ?_
          refine qc_aload_n E_X1_ask (by rfl) dX1_ask_44 ?_
          refine re_new hO E_X1_ask rfl ck_X6 q231 q232 q93 df_X6 dX1_ask_45 h ?_
          clear h
          intro w15 h16 c17 h
          refine qc_dup E_X1_ask rfl dX1_ask_48 ?_
          obtain ⟨c19, k18, rfl, h⟩ := h
          refine qc_callIN (c := c19) (k := k18) (As := []) (rest := [.ref w15, .ref a0]) E_X1_ask rfl M_X6_init rfl rfl rfl (hO.2.1 _ (qj_N q233 rfl)) q234 rfl rfl (Nat.le_of_ble_eq_true rfl) dX1_ask_49 (qc_S.mono ?_ (C_X6_init (d := d + 7) hO hP w15 h16 k18 _ h))
          clear h
          rintro _ h20 ⟨rfl, h⟩
          refine K1_v ?_
          refine re_put E_X1_ask rfl ck_X1 (by decide) 12 (by decide) q313 rfl rfl rfl dX1_ask_52 h ?_
          clear h
          intro h21 h
          refine qc_aload_n E_X1_ask (by rfl) dX1_ask_55 ?_
          refine re_getI E_X1_ask rfl ck_X1 (by decide) 15 (by decide) q316 dX1_ask_56 h ?_
          clear h
          intro v22 h
          refine qc_istore_n E_X1_ask (by decide) dX1_ask_59 ?_
          refine qc_aload_n E_X1_ask (by rfl) dX1_ask_60 ?_
          refine re_getR E_X1_ask rfl ck_X1 (by decide) 5 (by decide) q305 dX1_ask_61 h ?_
          clear h
          intro v23 h
          refine re_size (d := d + 8) hO E_X1_ask rfl q366 (Nat.le_of_ble_eq_true rfl) dX1_ask_64 h ?_
          clear h
          intro n24 h
          refine re_newQ hO 7 (fun _ => rfl) E_X1_ask rfl q1254 (qj_N q1255 rfl) dX1_ask_67 h ?_
          clear h
          intro w25 h26 c27 h
          refine qc_astore E_X1_ask (by decide) dX1_ask_70 ?_
          refine qc_iconst E_X1_ask 0 (by decide) dX1_ask_72 ?_
          refine qc_istore E_X1_ask (by decide) dX1_ask_73 ?_
          refine h (fun (x29 : Int32) (h30 : qc_H) (c31 : Nat) => qc_wp g x (d + 14) c31 I_X1_ask 75 [some (.ref a0), some (.int a1), some (.int a2), some (.int v22), some (.ref w25), some (.int x29), none, none, none, none, none, none] [] h30 (oX (oI K) KX)) ?_
          clear h
          intro x29 h30 c31 h
          refine qc_iload E_X1_ask (by rfl) dX1_ask_75 ?_
          refine qc_aload E_X1_ask (by rfl) dX1_ask_77 ?_
          refine re_alen E_X1_ask 7 (fun _ => rfl) dX1_ask_79 h ?_
          clear h
          intro v32 h
          refine qc_icmp_ge E_X1_ask 104 dX1_ask_80 (by decide) (fun (c33 : v32 ≤ x29) => ?_) (fun (c33 : ¬ v32 ≤ x29) => ?_)
          · replace h := h.1 c33
            refine qc_iconst E_X1_ask 0 (by decide) dX1_ask_104 ?_
            refine qc_istore E_X1_ask (by decide) dX1_ask_105 ?_
            refine h (fun (x35 : Int32) (h36 : qc_H) (c37 : Nat) => qc_wp g x (d + 14) c37 I_X1_ask 107 [some (.ref a0), some (.int a1), some (.int a2), some (.int v22), some (.ref w25), some (.int x35), none, none, none, none, none, none] [] h36 (oX (oI K) KX)) ?_
            clear h
            intro x35 h36 c37 h
            refine qc_iload E_X1_ask (by rfl) dX1_ask_107 ?_
            refine qc_aload E_X1_ask (by rfl) dX1_ask_109 ?_
            refine re_alen E_X1_ask 7 (fun _ => rfl) dX1_ask_111 h ?_
            clear h
            intro v38 h
            refine qc_icmp_ge E_X1_ask 168 dX1_ask_112 (by decide) (fun (c39 : v38 ≤ x35) => ?_) (fun (c39 : ¬ v38 ≤ x35) => ?_)
            · replace h := h.1 c39
              refine re_newL (d := d + 8) hO E_X1_ask rfl q204 q206 (Nat.le_of_ble_eq_true rfl) dX1_ask_168 dX1_ask_171 dX1_ask_172 h ?_
              clear h
              intro w40 h41 c42 h
              refine qc_astore E_X1_ask (by decide) dX1_ask_175 ?_
              refine qc_iconst E_X1_ask 0 (by decide) dX1_ask_177 ?_
              refine qc_istore E_X1_ask (by decide) dX1_ask_178 ?_
              refine qc_aload_n E_X1_ask (by rfl) dX1_ask_180 ?_
              refine re_getI E_X1_ask rfl ck_X1 (by decide) 14 (by decide) q315 dX1_ask_181 h ?_
              clear h
              intro v43 h
              refine qc_istore E_X1_ask (by decide) dX1_ask_184 ?_
              refine qc_aload E_X1_ask (by rfl) dX1_ask_186 ?_
              refine qc_astore E_X1_ask (by decide) dX1_ask_188 ?_
              refine qc_aload E_X1_ask (by rfl) dX1_ask_190 ?_
              refine re_alen E_X1_ask 7 (fun _ => rfl) dX1_ask_192 h ?_
              clear h
              intro v44 h
              refine qc_istore E_X1_ask (by decide) dX1_ask_193 ?_
              refine qc_iconst E_X1_ask 0 (by decide) dX1_ask_195 ?_
              refine qc_istore E_X1_ask (by decide) dX1_ask_196 ?_
              refine qc_drop 1 ?_
              refine qc_drop 2 ?_
              refine qc_drop 3 ?_
              refine qc_drop 4 ?_
              refine h (fun (x46 : Int32) (x47 : Int32) (x48 : Int32) (h49 : qc_H) (c50 : Nat) => qc_wp g x (d + 14) c50 I_X1_ask 198 [some (.ref a0), none, none, none, none, some (.ref w40), some (.int x46), some (.int x47), some (.ref w25), some (.int v44), some (.int x48), none] [] h49 (oX (oI K) KX)) ?_
              clear h
              intro x46 x47 x48 h49 c50 h
              refine qc_iload E_X1_ask (by rfl) dX1_ask_198 ?_
              refine qc_iload E_X1_ask (by rfl) dX1_ask_200 ?_
              refine qc_icmp_ge E_X1_ask 304 dX1_ask_202 (by decide) (fun (c51 : v44 ≤ x48) => ?_) (fun (c51 : ¬ v44 ≤ x48) => ?_)
              · replace h := h.1 c51
                refine qc_aload_n E_X1_ask (by rfl) dX1_ask_304 ?_
                refine re_getR E_X1_ask rfl ck_X1 (by decide) 12 (by decide) q313 dX1_ask_305 h ?_
                clear h
                intro v52 h
                refine qc_aload_n E_X1_ask (by rfl) dX1_ask_308 ?_
                refine re_getR E_X1_ask rfl ck_X1 (by decide) 12 (by decide) q313 dX1_ask_309 h ?_
                clear h
                intro v53 h
                refine re_getI E_X1_ask rfl ck_X6 (by decide) 2 (by decide) q243 dX1_ask_312 h ?_
                clear h
                intro v54 h
                have jz := h (fun (x58 : Int32) => qc_wp g x (d + 14) c50 I_X1_ask 331 [some (.ref a0), none, none, none, none, some (.ref w40), none, none, none, none, none, none] [.int x58, .ref v52] h49 (oX (oI K) KX))
                clear h
                have h := jz (by
                  intro x58 h
                  refine re_put E_X1_ask rfl ck_X6 (by decide) 3 (by decide) q245 rfl rfl rfl dX1_ask_331 h ?_
                  clear h
                  intro h59 h
                  refine qc_aload_n E_X1_ask (by rfl) dX1_ask_334 ?_
                  refine qc_aload E_X1_ask (by rfl) dX1_ask_335 ?_
                  refine qc_aload_n E_X1_ask (by rfl) dX1_ask_337 ?_
                  refine re_getR E_X1_ask rfl ck_X1 (by decide) 12 (by decide) q313 dX1_ask_338 h ?_
                  clear h
                  intro v60 h
                  obtain ⟨⟨fz, hb⟩, c62, k61, rfl, h⟩ := h
                  refine qc_callV (c := c62) (k := k61) (As := [.ref w40, .ref v60]) (rest := []) hO E_X1_ask rfl M_X1_walk rfl q1523 q1525 qs24 (ci := 0) rfl rfl hb rfl rfl (Nat.le_of_ble_eq_true rfl) dX1_ask_341 (qc_S.mono ?_ (C_X1_walk (d := d) hO hP a0 w40 v60 h59 k61 _ h))
                  clear h
                  clear hb
                  rintro _ h63 ⟨rfl, h⟩
                  refine K1_v ?_
                  refine qc_aload_n E_X1_ask (by rfl) dX1_ask_344 ?_
                  refine qc_aload_n E_X1_ask (by rfl) dX1_ask_345 ?_
                  refine re_getR E_X1_ask rfl ck_X1 (by decide) 12 (by decide) q313 dX1_ask_346 h ?_
                  clear h
                  intro v64 h
                  obtain ⟨⟨fz, hb⟩, h⟩ := h
                  refine qc_callV (c := c62) (k := 0) (As := [.ref v64]) (rest := []) hO E_X1_ask rfl M_X1_cut rfl q1549 q1551 qs28 (ci := 0) rfl rfl hb rfl rfl (Nat.le_of_ble_eq_true rfl) dX1_ask_349 (qc_S.mono ?_ (C_X1_cut (d := d + 7) hO hP a0 v64 h63 _ h))
                  clear h
                  clear hb
                  rintro _ h65 ⟨rfl, h⟩
                  refine K1_v ?_
                  refine qc_aload_n E_X1_ask (by rfl) dX1_ask_352 ?_
                  refine re_getR E_X1_ask rfl ck_X1 (by decide) 12 (by decide) q313 dX1_ask_353 h ?_
                  clear h
                  intro v66 h
                  refine re_getR E_X1_ask rfl ck_X6 (by decide) 0 (by decide) q240 dX1_ask_356 h ?_
                  clear h
                  intro v67 h
                  refine re_size (d := d + 8) hO E_X1_ask rfl q366 (Nat.le_of_ble_eq_true rfl) dX1_ask_359 h ?_
                  clear h
                  intro n68 h
                  exact qc_iret E_X1_ask rfl dX1_ask_362 (Or.inl (⟨_, rfl, h⟩)))
                clear jz
                refine qc_if_ne E_X1_ask 330 dX1_ask_315 (by decide) (fun (c55 : ¬ v54 = 0) => ?_) (fun (c55 : v54 = 0) => ?_)
                · replace h := h.1 c55
                  refine qc_iconst E_X1_ask (-1) (by decide) dX1_ask_330 ?_
                  refine qc_drop 6 ?_
                  refine qc_drop 7 ?_
                  refine qc_drop 8 ?_
                  refine qc_drop 9 ?_
                  refine qc_drop 10 ?_
                  exact h
                · replace h := h.2 c55
                  refine qc_iload E_X1_ask (by rfl) dX1_ask_318 ?_
                  refine qc_iload E_X1_ask (by rfl) dX1_ask_320 ?_
                  refine qc_icmp_gt E_X1_ask 330 dX1_ask_322 (by decide) (fun (c56 : x47 < x46) => ?_) (fun (c56 : ¬ x47 < x46) => ?_)
                  · replace h := h.1 c56
                    refine qc_iconst E_X1_ask (-1) (by decide) dX1_ask_330 ?_
                    refine qc_drop 6 ?_
                    refine qc_drop 7 ?_
                    refine qc_drop 8 ?_
                    refine qc_drop 9 ?_
                    refine qc_drop 10 ?_
                    exact h
                  · replace h := h.2 c56
                    refine qc_iload E_X1_ask (by rfl) dX1_ask_325 ?_
                    refine qc_goto E_X1_ask 331 dX1_ask_327 (by decide) ?_
                    refine qc_drop 6 ?_
                    refine qc_drop 7 ?_
                    refine qc_drop 8 ?_
                    refine qc_drop 9 ?_
                    refine qc_drop 10 ?_
                    exact h
              · replace h := h.2 c51
                refine qc_aload E_X1_ask (by rfl) dX1_ask_205 ?_
                refine qc_iload E_X1_ask (by rfl) dX1_ask_207 ?_
                refine re_aald 7 (fun _ => rfl) E_X1_ask dX1_ask_209 h ?_
                clear h
                intro v69 h
                refine qc_astore E_X1_ask (by decide) dX1_ask_210 ?_
                refine qc_aload E_X1_ask (by rfl) dX1_ask_212 ?_
                refine qc_aload E_X1_ask (by rfl) dX1_ask_214 ?_
                refine re_getR E_X1_ask rfl ck_X14 (by decide) 4 (by decide) q1296 dX1_ask_216 h ?_
                clear h
                intro v70 h
                refine re_add (d := d + 8) hO E_X1_ask rfl q982 (Nat.le_of_ble_eq_true rfl) dX1_ask_219 h ?_
                clear h
                intro h71 c72 h
                refine qc_pop E_X1_ask rfl dX1_ask_222 ?_
                refine qc_aload_n E_X1_ask (by rfl) dX1_ask_223 ?_
                refine re_getR E_X1_ask rfl ck_X1 (by decide) 12 (by decide) q313 dX1_ask_224 h ?_
                clear h
                intro v73 h
                refine qc_dup E_X1_ask rfl dX1_ask_227 ?_
                refine re_getI E_X1_ask rfl ck_X6 (by decide) 2 (by decide) q243 dX1_ask_228 h ?_
                clear h
                intro v74 h
                refine qc_aload E_X1_ask (by rfl) dX1_ask_231 ?_
                refine re_getI E_X1_ask rfl ck_X14 (by decide) 6 (by decide) q1298 dX1_ask_233 h ?_
                clear h
                intro v75 h
                have jz := h (fun (x79 : Int32) => qc_wp g x (d + 14) c72 I_X1_ask 250 [some (.ref a0), none, none, none, none, some (.ref w40), some (.int x46), some (.int x47), some (.ref w25), some (.int v44), some (.int x48), some (.ref v69)] [.int x79, .int v74, .ref v73] h71 (oX (oI K) KX))
                clear h
                have h := jz (by
                  intro x79 h
                  refine qc_ior E_X1_ask dX1_ask_250 ?_
                  refine re_put E_X1_ask rfl ck_X6 (by decide) 2 (by decide) q243 rfl rfl rfl dX1_ask_251 h ?_
                  clear h
                  intro h80 h
                  refine qc_iload E_X1_ask (by rfl) dX1_ask_254 ?_
                  refine qc_aload E_X1_ask (by rfl) dX1_ask_256 ?_
                  refine re_getR E_X1_ask rfl ck_X14 (by decide) 1 (by decide) q1291 dX1_ask_258 h ?_
                  clear h
                  intro v81 h
                  refine qc_aload E_X1_ask (by rfl) dX1_ask_261 ?_
                  refine re_getI E_X1_ask rfl ck_X14 (by decide) 8 (by decide) q1300 dX1_ask_263 h ?_
                  clear h
                  intro v82 h
                  obtain ⟨⟨fz, hb⟩, h⟩ := h
                  refine qc_callV (c := c72) (k := 0) (As := [.int v82]) (rest := [.int x46]) hO E_X1_ask rfl M_X7_since rfl q1512 q1513 q1514 (ci := 6) rfl rfl hb rfl rfl (Nat.le_of_ble_eq_true rfl) dX1_ask_266 (qc_S.mono ?_ (C_X7_since (d := d + 7) hO hP v81 v82 h80 _ h))
                  clear h
                  clear hb
                  rintro _ _ ⟨r83, rfl, rfl, h⟩
                  refine K1_i ?_
                  refine qc_mmax E_X1_ask rfl q1518 q630 q106 q631 (Nat.le_of_ble_eq_true rfl) dX1_ask_269 ?_
                  obtain ⟨u84, eu84⟩ : ∃ z : Int32, z = (if x46 < r83 then r83 else x46) := ⟨_, rfl⟩
                  replace h := h u84 eu84
                  rw [← eu84]
                  refine qc_istore E_X1_ask (by decide) dX1_ask_272 ?_
                  refine qc_iload E_X1_ask (by rfl) dX1_ask_274 ?_
                  refine qc_aload E_X1_ask (by rfl) dX1_ask_276 ?_
                  refine re_getR E_X1_ask rfl ck_X14 (by decide) 1 (by decide) q1291 dX1_ask_278 h ?_
                  clear h
                  intro v85 h
                  refine qc_aload E_X1_ask (by rfl) dX1_ask_281 ?_
                  refine re_getI E_X1_ask rfl ck_X14 (by decide) 8 (by decide) q1300 dX1_ask_283 h ?_
                  clear h
                  intro v86 h
                  refine qc_aload_n E_X1_ask (by rfl) dX1_ask_286 ?_
                  refine re_getI E_X1_ask rfl ck_X1 (by decide) 14 (by decide) q315 dX1_ask_287 h ?_
                  clear h
                  intro v87 h
                  obtain ⟨⟨fz, hb⟩, h⟩ := h
                  refine qc_callV (c := c72) (k := 0) (As := [.int v86, .int v87]) (rest := [.int x47]) hO E_X1_ask rfl M_X7_until rfl q1519 q1520 q1521 (ci := 6) rfl rfl hb rfl rfl (Nat.le_of_ble_eq_true rfl) dX1_ask_290 (qc_S.mono ?_ (C_X7_until (d := d + 7) hO hP v85 v86 v87 h80 _ h))
                  clear h
                  clear hb
                  rintro _ _ ⟨r88, rfl, rfl, h⟩
                  refine K1_i ?_
                  refine qc_mmin E_X1_ask rfl q1415 q627 q106 q628 (Nat.le_of_ble_eq_true rfl) dX1_ask_293 ?_
                  obtain ⟨u89, eu89⟩ : ∃ z : Int32, z = (if r88 < x47 then r88 else x47) := ⟨_, rfl⟩
                  replace h := h u89 eu89
                  rw [← eu89]
                  refine qc_istore E_X1_ask (by decide) dX1_ask_296 ?_
                  refine qc_iinc E_X1_ask 1 rfl (by decide) (by decide) dX1_ask_298 ?_
                  refine qc_goto E_X1_ask 198 dX1_ask_301 (by decide) ?_
                  refine qc_drop 11 ?_
                  exact h)
                clear jz
                refine qc_if_eq E_X1_ask 249 dX1_ask_236 (by decide) (fun (c76 : v75 = 0) => ?_) (fun (c76 : ¬ v75 = 0) => ?_)
                · replace h := h.1 c76
                  refine qc_iconst E_X1_ask 0 (by decide) dX1_ask_249 ?_
                  exact h
                · replace h := h.2 c76
                  refine qc_iconst E_X1_ask 1 (by decide) dX1_ask_239 ?_
                  refine qc_aload E_X1_ask (by rfl) dX1_ask_240 ?_
                  refine re_getI E_X1_ask rfl ck_X14 (by decide) 0 (by decide) q1289 dX1_ask_242 h ?_
                  clear h
                  intro v77 h
                  refine qc_ishl E_X1_ask dX1_ask_245 ?_
                  refine qc_goto E_X1_ask 250 dX1_ask_246 (by decide) ?_
                  exact h
            · replace h := h.2 c39
              refine qc_aload_n E_X1_ask (by rfl) dX1_ask_115 ?_
              refine qc_aload E_X1_ask (by rfl) dX1_ask_116 ?_
              obtain ⟨⟨fz, hb⟩, h⟩ := h
              refine qc_callV (c := c37) (k := 0) (As := [.ref w25]) (rest := []) hO E_X1_ask rfl M_X1_next rfl q1326 q1328 qs15 (ci := 0) rfl rfl hb rfl rfl (Nat.le_of_ble_eq_true rfl) dX1_ask_118 (qc_S.mono ?_ (C_X1_next (d := d + 6) hO hP a0 w25 h36 _ h))
              clear h
              clear hb
              rintro _ _ ⟨r90, rfl, rfl, h⟩
              refine K1_o ?_
              refine re_astoreO E_X1_ask (by decide) dX1_ask_121 ?_
              refine qc_aload_n E_X1_ask (by rfl) dX1_ask_123 ?_
              refine re_aloadO E_X1_ask (by rfl) dX1_ask_124 ?_
              refine qc_aload E_X1_ask (by rfl) dX1_ask_126 ?_
              refine qc_iload_n E_X1_ask (by rfl) dX1_ask_128 ?_
              refine qc_iload_n E_X1_ask (by rfl) dX1_ask_129 ?_
              refine qc_iload_n E_X1_ask (by rfl) dX1_ask_130 ?_
              obtain ⟨y91, rfl, h⟩ := h
              obtain ⟨⟨fz, hb⟩, c93, k92, rfl, h⟩ := h
              refine qc_callV (c := c93) (k := k92) (As := [.ref y91, .ref w25, .int a1, .int v22, .int a2]) (rest := []) hO E_X1_ask rfl M_X1_take rfl q1343 q1345 qs17 (ci := 0) rfl rfl hb rfl rfl (Nat.le_of_ble_eq_true rfl) dX1_ask_131 (qc_S.mono ?_ (C_X1_take (d := d + 1) hO hP a0 y91 w25 a1 v22 a2 h36 k92 _ h))
              clear h
              clear hb
              rintro _ h94 ⟨rfl, h⟩
              refine K1_v ?_
              refine qc_aload_n E_X1_ask (by rfl) dX1_ask_134 ?_
              refine re_getR E_X1_ask rfl ck_X1 (by decide) 12 (by decide) q313 dX1_ask_135 h ?_
              clear h
              intro v95 h
              refine re_getR E_X1_ask rfl ck_X6 (by decide) 1 (by decide) q242 dX1_ask_138 h ?_
              clear h
              intro v96 h
              refine qc_bipush E_X1_ask 10 (by decide) dX1_ask_141 ?_
              refine qc_aload E_X1_ask (by rfl) dX1_ask_143 ?_
              refine re_getI E_X1_ask rfl ck_X14 (by decide) 0 (by decide) q1289 dX1_ask_145 h ?_
              clear h
              intro v97 h
              refine qc_imul E_X1_ask dX1_ask_148 ?_
              refine qc_aload E_X1_ask (by rfl) dX1_ask_149 ?_
              refine re_getI E_X1_ask rfl ck_X14 (by decide) 7 (by decide) q1299 dX1_ask_151 h ?_
              clear h
              intro v98 h
              refine qc_iadd E_X1_ask dX1_ask_154 ?_
              refine re_box (d := d + 8) hO E_X1_ask rfl q962 (Nat.le_of_ble_eq_true rfl) dX1_ask_155 h ?_
              clear h
              intro w101 h99 c100 h
              refine re_add (d := d + 8) hO E_X1_ask rfl q982 (Nat.le_of_ble_eq_true rfl) dX1_ask_158 h ?_
              clear h
              intro h102 c103 h
              refine qc_pop E_X1_ask rfl dX1_ask_161 ?_
              refine qc_iinc E_X1_ask 1 rfl (by decide) (by decide) dX1_ask_162 ?_
              refine qc_goto E_X1_ask 107 dX1_ask_165 (by decide) ?_
              refine qc_drop 6 ?_
              exact h
          · replace h := h.2 c33
            refine qc_aload E_X1_ask (by rfl) dX1_ask_83 ?_
            refine qc_iload E_X1_ask (by rfl) dX1_ask_85 ?_
            refine re_new hO E_X1_ask rfl ck_X14 q1254 q1256 q122 df_X14 dX1_ask_87 h ?_
            clear h
            intro w104 h105 c106 h
            refine qc_dup E_X1_ask rfl dX1_ask_90 ?_
            refine qc_aload_n E_X1_ask (by rfl) dX1_ask_91 ?_
            refine qc_iload E_X1_ask (by rfl) dX1_ask_92 ?_
            obtain ⟨c108, k107, rfl, h⟩ := h
            refine qc_callI (c := c108) (k := k107) (As := [.ref a0, .int x29]) (rest := [.ref w104, .int x29, .ref w25]) E_X1_ask rfl M_X14_init rfl rfl rfl q1257 q1258 rfl rfl (Nat.le_of_ble_eq_true rfl) dX1_ask_94 (qc_S.mono ?_ (C_X14_init (d := d + 7) hO hP w104 a0 x29 h105 k107 _ h))
            clear h
            rintro _ h109 ⟨rfl, h⟩
            refine K1_v ?_
            refine re_aast (fun _ => rfl) (ci := 13) rfl (by decide) E_X1_ask dX1_ask_97 h ?_
            clear h
            intro h110 h
            refine qc_iinc E_X1_ask 1 rfl (by decide) (by decide) dX1_ask_98 ?_
            refine qc_goto E_X1_ask 75 dX1_ask_101 (by decide) ?_
            exact h
        · revert tz; rintro _ ⟨Ez, rfl, rfl, h⟩
          refine K1_x ?_
          exact qc_out (by decide) (Or.inr ⟨_, rfl, h⟩))
      clear jz
      refine qc_if_ne E_X1_ask 40 dX1_ask_23 (by decide) (fun (c7 : ¬ n6 = 0) => ?_) (fun (c7 : n6 = 0) => ?_)
      · replace h := h.1 c7
        refine qc_iconst E_X1_ask 0 (by decide) dX1_ask_40 ?_
        exact h
      · replace h := h.2 c7
        refine qc_aload_n E_X1_ask (by rfl) dX1_ask_26 ?_
        refine re_getR E_X1_ask rfl ck_X1 (by decide) 8 (by decide) q309 dX1_ask_27 h ?_
        clear h
        intro v8 h
        refine re_empty (d := d + 8) hO E_X1_ask rfl q1250 (Nat.le_of_ble_eq_true rfl) dX1_ask_30 h ?_
        clear h
        intro n9 h
        refine qc_if_ne E_X1_ask 40 dX1_ask_33 (by decide) (fun (c10 : ¬ n9 = 0) => ?_) (fun (c10 : n9 = 0) => ?_)
        · replace h := h.1 c10
          refine qc_iconst E_X1_ask 0 (by decide) dX1_ask_40 ?_
          exact h
        · replace h := h.2 c10
          refine qc_iconst E_X1_ask 1 (by decide) dX1_ask_36 ?_
          refine qc_goto E_X1_ask 41 dX1_ask_37 (by decide) ?_
          exact h
    · revert tz; rintro _ ⟨Ez, rfl, rfl, h⟩
      refine K1_x ?_
      exact qc_out (by decide) (Or.inr ⟨_, rfl, h⟩)
  · revert tz; rintro _ ⟨Ez, rfl, rfl, h⟩
    refine K1_x ?_
    exact qc_out (by decide) (Or.inr ⟨_, rfl, h⟩)
def I_X1_cellOf : qh_I := (yX1_cellOf, cX1_cellOf, 4, (Option.some Jvm.ClassFile.FieldType.int), [])
theorem E_X1_cellOf : I_X1_cellOf.2.1 = cX1_cellOf := rfl
theorem M_X1_cellOf : qh_M I_X1_cellOf 3 := ⟨by decide, by decide, by decide +kernel, q85, q1563, by decide⟩
def T_X1_cellOf (g : qh_G) (a0 : Nat) (a1 : Nat) (a2 : Int32) (a3 : Int32) (hp : qc_H) (c : Nat) (K : Int32 → Prop) (KX : String → Prop) : Prop := eR hp a1 5 0 (fun v1 => eSz hp v1 (fun n2 => eK c (fun c4 k3 => T_X1_known g a2 n2 hp k3 (fun r5 => eR hp a1 5 0 (fun v6 => eGt hp v6 a2 (fun p7 => eCA g.2.2.2.1 hp p7 (eR hp a1 5 0 (fun v8 => eGt hp v8 a2 (fun p9 => eCA g.2.2.2.1 hp p9 (eT g.2.2.2.1 0 hp p9 (fun v10 => eK c4 (fun c12 k11 => T_X1_known g a3 v10 hp k11 (fun r13 => eA g.2.2.2.1 hp p7 r13 (fun v14 => K v14)) (fun Ez => KX Ez)))))))))) (fun Ez => KX Ez))))
set_option maxHeartbeats 8000000 in
theorem C_X1_cellOf {g : qh_G} {x : qc_X} {d : Nat} {sd : String → Nat → Nat} (hO : qc_O g x) (hP : qc_P g qp_ts sd) (a0 : Nat) (a1 : Nat) (a2 : Int32) (a3 : Int32) (hp : qc_H) (c : Nat) (K : Int32 → Prop) (KX : String → Prop) (hz : T_X1_cellOf g a0 a1 a2 a3 hp c K KX) : qc_S g x (d + 6) c I_X1_cellOf [.ref a0, .ref a1, .int a2, .int a3] hp (oX (oI (fun v t => hp = t ∧ K v)) (fun E t => hp = t ∧ KX E)) := by
  refine qc_S.of (by decide) rfl (ls := [some (.ref a0), some (.ref a1), some (.int a2), some (.int a3)]) rfl (Nat.le_of_ble_eq_true rfl) (ct_c rfl (ct_c rfl (ct_c rfl (ct_c rfl ct_n)))) ?_
  unfold T_X1_cellOf at hz
  have h := hz
  clear hz
  refine qc_iload_n E_X1_cellOf (by rfl) dX1_cellOf_0 ?_
  refine qc_aload_n E_X1_cellOf (by rfl) dX1_cellOf_1 ?_
  refine re_getR E_X1_cellOf rfl ck_X6 (by decide) 0 (by decide) q240 dX1_cellOf_2 h ?_
  clear h
  intro v1 h
  refine re_size (d := d) hO E_X1_cellOf rfl q366 (Nat.le_of_ble_eq_true rfl) dX1_cellOf_5 h ?_
  clear h
  intro n2 h
  obtain ⟨c4, k3, rfl, h⟩ := h
  refine qc_callS (c := c4) (k := k3) (As := [.int a2, .int n2]) (rest := []) E_X1_cellOf rfl M_X1_known rfl q494 q495 rfl rfl (Nat.le_of_ble_eq_true rfl) dX1_cellOf_8 (qc_S.mono ?_ (C_X1_known (d := d + 5) hO hP a2 n2 hp k3 _ _ h))
  clear h
  rintro _ tz (hz | hz)
  · obtain ⟨r5, rfl, rfl, h⟩ := hz
    refine K1_i ?_
    refine qc_pop E_X1_cellOf rfl dX1_cellOf_11 ?_
    refine qc_aload_n E_X1_cellOf (by rfl) dX1_cellOf_12 ?_
    refine re_getR E_X1_cellOf rfl ck_X6 (by decide) 0 (by decide) q240 dX1_cellOf_13 h ?_
    clear h
    intro v6 h
    refine qc_iload_n E_X1_cellOf (by rfl) dX1_cellOf_16 ?_
    refine re_get (d := d) hO E_X1_cellOf rfl q1013 (Nat.le_of_ble_eq_true rfl) dX1_cellOf_17 h ?_
    clear h
    intro p7 h
    refine re_castA E_X1_cellOf rfl q1536 dX1_cellOf_20 h ?_
    clear h
    intro h
    refine qc_iload_n E_X1_cellOf (by rfl) dX1_cellOf_23 ?_
    refine qc_aload_n E_X1_cellOf (by rfl) dX1_cellOf_24 ?_
    refine re_getR E_X1_cellOf rfl ck_X6 (by decide) 0 (by decide) q240 dX1_cellOf_25 h ?_
    clear h
    intro v8 h
    refine qc_iload_n E_X1_cellOf (by rfl) dX1_cellOf_28 ?_
    refine re_get (d := d) hO E_X1_cellOf rfl q1013 (Nat.le_of_ble_eq_true rfl) dX1_cellOf_29 h ?_
    clear h
    intro p9 h
    refine re_castA E_X1_cellOf rfl q1536 dX1_cellOf_32 h ?_
    clear h
    intro h
    refine re_alen E_X1_cellOf 0 (fun _ => rfl) dX1_cellOf_35 h ?_
    clear h
    intro v10 h
    obtain ⟨c12, k11, rfl, h⟩ := h
    refine qc_callS (c := c12) (k := k11) (As := [.int a3, .int v10]) (rest := [.ref p7]) E_X1_cellOf rfl M_X1_known rfl q494 q495 rfl rfl (Nat.le_of_ble_eq_true rfl) dX1_cellOf_36 (qc_S.mono ?_ (C_X1_known (d := d + 5) hO hP a3 v10 hp k11 _ _ h))
    clear h
    rintro _ tz (hz | hz)
    · obtain ⟨r13, rfl, rfl, h⟩ := hz
      refine K1_i ?_
      refine re_iald E_X1_cellOf dX1_cellOf_39 h ?_
      clear h
      intro v14 h
      exact qc_iret E_X1_cellOf rfl dX1_cellOf_40 (Or.inl (⟨_, rfl, rfl, h⟩))
    · revert tz; rintro _ ⟨Ez, rfl, rfl, h⟩
      refine K1_x ?_
      exact qc_out (by decide) (Or.inr ⟨_, rfl, rfl, h⟩)
  · revert tz; rintro _ ⟨Ez, rfl, rfl, h⟩
    refine K1_x ?_
    exact qc_out (by decide) (Or.inr ⟨_, rfl, rfl, h⟩)
def I_X1_answer : qh_I := (yX1_answer, cX1_answer, 3, (Option.some Jvm.ClassFile.FieldType.int), [])
theorem E_X1_answer : I_X1_answer.2.1 = cX1_answer := rfl
theorem M_X1_answer : qh_M I_X1_answer 2 := ⟨by decide, by decide, by decide +kernel, q85, q1559, by decide⟩
def T_X1_answer (g : qh_G) (a0 : Nat) (a1 : Int32) (a2 : Int32) (hp : qc_H) (c : Nat) (K : Int32 → Prop) (KX : String → Prop) : Prop := eR hp a0 0 12 (fun v1 => eC hp a0 0 (eK c (fun c3 k2 => T_X1_cellOf g a0 v1 a1 a2 hp k2 (fun r4 => K r4) (fun Ez => KX Ez))))
set_option maxHeartbeats 8000000 in
theorem C_X1_answer {g : qh_G} {x : qc_X} {d : Nat} {sd : String → Nat → Nat} (hO : qc_O g x) (hP : qc_P g qp_ts sd) (a0 : Nat) (a1 : Int32) (a2 : Int32) (hp : qc_H) (c : Nat) (K : Int32 → Prop) (KX : String → Prop) (hz : T_X1_answer g a0 a1 a2 hp c K KX) : qc_S g x (d + 7) c I_X1_answer [.ref a0, .int a1, .int a2] hp (oX (oI (fun v t => hp = t ∧ K v)) (fun E t => hp = t ∧ KX E)) := by
  refine qc_S.of (by decide) rfl (ls := [some (.ref a0), some (.int a1), some (.int a2)]) rfl (Nat.le_of_ble_eq_true rfl) (ct_c rfl (ct_c rfl (ct_c rfl ct_n))) ?_
  unfold T_X1_answer at hz
  have h := hz
  clear hz
  refine qc_aload_n E_X1_answer (by rfl) dX1_answer_0 ?_
  refine qc_aload_n E_X1_answer (by rfl) dX1_answer_1 ?_
  refine re_getR E_X1_answer rfl ck_X1 (by decide) 12 (by decide) q313 dX1_answer_2 h ?_
  clear h
  intro v1 h
  refine qc_iload_n E_X1_answer (by rfl) dX1_answer_5 ?_
  refine qc_iload_n E_X1_answer (by rfl) dX1_answer_6 ?_
  obtain ⟨⟨fz, hb⟩, c3, k2, rfl, h⟩ := h
  refine qc_callV (c := c3) (k := k2) (As := [.ref v1, .int a1, .int a2]) (rest := []) hO E_X1_answer rfl M_X1_cellOf rfl q1560 q1562 qs29 (ci := 0) rfl rfl hb rfl rfl (Nat.le_of_ble_eq_true rfl) dX1_answer_7 (qc_S.mono ?_ (C_X1_cellOf (d := d) hO hP a0 v1 a1 a2 hp k2 _ _ h))
  clear h
  clear hb
  rintro _ tz (hz | hz)
  · obtain ⟨r4, rfl, rfl, h⟩ := hz
    refine K1_i ?_
    exact qc_iret E_X1_answer rfl dX1_answer_10 (Or.inl (⟨_, rfl, rfl, h⟩))
  · revert tz; rintro _ ⟨Ez, rfl, rfl, h⟩
    refine K1_x ?_
    exact qc_out (by decide) (Or.inr ⟨_, rfl, rfl, h⟩)
def I_X1_taken : qh_I := (yX1_taken, cX1_taken, 2, (Option.some Jvm.ClassFile.FieldType.int), [])
theorem E_X1_taken : I_X1_taken.2.1 = cX1_taken := rfl
theorem M_X1_taken : qh_M I_X1_taken 1 := ⟨by decide, by decide, by decide +kernel, q85, q1570, by decide⟩
def T_X1_taken (g : qh_G) (a0 : Nat) (a1 : Int32) (hp : qc_H) (c : Nat) (K : Int32 → Prop) (KX : String → Prop) : Prop := eR hp a0 0 12 (fun v1 => eR hp v1 5 1 (fun v2 => eR hp a0 0 12 (fun v3 => eR hp v3 5 1 (fun v4 => eSz hp v4 (fun n5 => eK c (fun c7 k6 => T_X1_known g a1 n5 hp k6 (fun r8 => eGt hp v2 r8 (fun p9 => eC hp p9 17 (eB hp p9 (fun v10 => K v10)))) (fun Ez => KX Ez)))))))
set_option maxHeartbeats 8000000 in
theorem C_X1_taken {g : qh_G} {x : qc_X} {d : Nat} {sd : String → Nat → Nat} (hO : qc_O g x) (hP : qc_P g qp_ts sd) (a0 : Nat) (a1 : Int32) (hp : qc_H) (c : Nat) (K : Int32 → Prop) (KX : String → Prop) (hz : T_X1_taken g a0 a1 hp c K KX) : qc_S g x (d + 6) c I_X1_taken [.ref a0, .int a1] hp (oX (oI (fun v t => hp = t ∧ K v)) (fun E t => hp = t ∧ KX E)) := by
  refine qc_S.of (by decide) rfl (ls := [some (.ref a0), some (.int a1)]) rfl (Nat.le_of_ble_eq_true rfl) (ct_c rfl (ct_c rfl ct_n)) ?_
  unfold T_X1_taken at hz
  have h := hz
  clear hz
  refine qc_aload_n E_X1_taken (by rfl) dX1_taken_0 ?_
  refine re_getR E_X1_taken rfl ck_X1 (by decide) 12 (by decide) q313 dX1_taken_1 h ?_
  clear h
  intro v1 h
  refine re_getR E_X1_taken rfl ck_X6 (by decide) 1 (by decide) q242 dX1_taken_4 h ?_
  clear h
  intro v2 h
  refine qc_iload_n E_X1_taken (by rfl) dX1_taken_7 ?_
  refine qc_aload_n E_X1_taken (by rfl) dX1_taken_8 ?_
  refine re_getR E_X1_taken rfl ck_X1 (by decide) 12 (by decide) q313 dX1_taken_9 h ?_
  clear h
  intro v3 h
  refine re_getR E_X1_taken rfl ck_X6 (by decide) 1 (by decide) q242 dX1_taken_12 h ?_
  clear h
  intro v4 h
  refine re_size (d := d) hO E_X1_taken rfl q366 (Nat.le_of_ble_eq_true rfl) dX1_taken_15 h ?_
  clear h
  intro n5 h
  obtain ⟨c7, k6, rfl, h⟩ := h
  refine qc_callS (c := c7) (k := k6) (As := [.int a1, .int n5]) (rest := [.ref v2]) E_X1_taken rfl M_X1_known rfl q494 q495 rfl rfl (Nat.le_of_ble_eq_true rfl) dX1_taken_18 (qc_S.mono ?_ (C_X1_known (d := d + 5) hO hP a1 n5 hp k6 _ _ h))
  clear h
  rintro _ tz (hz | hz)
  · obtain ⟨r8, rfl, rfl, h⟩ := hz
    refine K1_i ?_
    refine re_get (d := d) hO E_X1_taken rfl q1013 (Nat.le_of_ble_eq_true rfl) dX1_taken_21 h ?_
    clear h
    intro p9 h
    refine re_castS (ci := 17) hO E_X1_taken rfl rfl q1158 dX1_taken_24 h ?_
    clear h
    intro h
    refine re_unbox (d := d) hO E_X1_taken rfl q1159 (Nat.le_of_ble_eq_true rfl) dX1_taken_27 h ?_
    clear h
    intro v10 h
    exact qc_iret E_X1_taken rfl dX1_taken_30 (Or.inl (⟨_, rfl, rfl, h⟩))
  · revert tz; rintro _ ⟨Ez, rfl, rfl, h⟩
    refine K1_x ?_
    exact qc_out (by decide) (Or.inr ⟨_, rfl, rfl, h⟩)
def I_X1_size : qh_I := (yX1_size, cX1_size, 2, (Option.some Jvm.ClassFile.FieldType.int), [])
theorem E_X1_size : I_X1_size.2.1 = cX1_size := rfl
theorem M_X1_size : qh_M I_X1_size 1 := ⟨by decide, by decide, by decide +kernel, q85, q1577, by decide⟩
def T_X1_size (g : qh_G) (a0 : Nat) (a1 : Int32) (hp : qc_H) (c : Nat) (K : Int32 → Prop) (KX : String → Prop) : Prop := eC hp a0 0 (eK c (fun c2 k1 => T_X1_sourceAt g a0 a1 hp k1 (fun r3 => eI hp r3 6 5 (fun v4 => K v4)) (fun Ez => KX Ez)))
set_option maxHeartbeats 8000000 in
theorem C_X1_size {g : qh_G} {x : qc_X} {d : Nat} {sd : String → Nat → Nat} (hO : qc_O g x) (hP : qc_P g qp_ts sd) (a0 : Nat) (a1 : Int32) (hp : qc_H) (c : Nat) (K : Int32 → Prop) (KX : String → Prop) (hz : T_X1_size g a0 a1 hp c K KX) : qc_S g x (d + 2) c I_X1_size [.ref a0, .int a1] hp (oX (oI (fun v t => hp = t ∧ K v)) (fun E t => hp = t ∧ KX E)) := by
  refine qc_S.of (by decide) rfl (ls := [some (.ref a0), some (.int a1)]) rfl (Nat.le_of_ble_eq_true rfl) (ct_c rfl (ct_c rfl ct_n)) ?_
  unfold T_X1_size at hz
  have h := hz
  clear hz
  refine qc_aload_n E_X1_size (by rfl) dX1_size_0 ?_
  refine qc_iload_n E_X1_size (by rfl) dX1_size_1 ?_
  obtain ⟨⟨fz, hb⟩, c2, k1, rfl, h⟩ := h
  refine qc_callV (c := c2) (k := k1) (As := [.int a1]) (rest := []) hO E_X1_size rfl M_X1_sourceAt rfl q490 q492 qs1 (ci := 0) rfl rfl hb rfl rfl (Nat.le_of_ble_eq_true rfl) dX1_size_2 (qc_S.mono ?_ (C_X1_sourceAt (d := d) hO hP a0 a1 hp k1 _ _ h))
  clear h
  clear hb
  rintro _ tz (hz | hz)
  · obtain ⟨r3, rfl, rfl, h⟩ := hz
    refine K1_r ?_
    refine re_getI E_X1_size rfl ck_X7 (by decide) 5 (by decide) q284 dX1_size_5 h ?_
    clear h
    intro v4 h
    exact qc_iret E_X1_size rfl dX1_size_8 (Or.inl (⟨_, rfl, rfl, h⟩))
  · revert tz; rintro _ ⟨Ez, rfl, rfl, h⟩
    refine K1_x ?_
    exact qc_out (by decide) (Or.inr ⟨_, rfl, rfl, h⟩)
def I_X1_anew : qh_I := (yX1_anew, cX1_anew, 4, (Option.some (Jvm.ClassFile.FieldType.object "QueryHarbor$Answer")), [])
theorem E_X1_anew : I_X1_anew.2.1 = cX1_anew := rfl
theorem M_X1_anew : qh_M I_X1_anew 0 := ⟨by decide, by decide, by decide +kernel, q85, q1588, by decide⟩
def T_X1_anew (g : qh_G) (a0 : Nat) (hp : qc_H) (c : Nat) (K : Nat → qc_H → Prop) (KX : String → qc_H → Prop) : Prop := eR hp a0 0 5 (fun v1 => eEm hp v1 (fun n2 => ∀ J7 : Int32 → Prop, (∀ (x8 : Int32), (eK c (fun c10 k9 => T_X1_allowed g x8 hp k9 (eNL hp c10 (fun w11 h12 c13 => ∀ X14 : Int32 → qc_H → Nat → Prop, (∀ (x15 : Int32) (h16 : qc_H) (c17 : Nat), (eR h16 a0 0 5 (fun v18 => eSz h16 v18 (fun n19 => (n19 ≤ x15 → eN h16 c17 5 7 [.null, .null, .int 0, .int 0, .int 0, .int 0, .int 0] (fun w21 h22 c23 => eK c23 (fun c25 k24 => T_X6_init g w21 h22 k24 (fun h26 => eC h26 a0 0 (eK c25 (fun c28 k27 => T_X1_walk g a0 w11 w21 h26 k27 (fun h29 => eC h29 a0 0 (T_X1_cut g a0 w21 h29 (fun h30 => K w21 h30))))))))) ∧ (¬ n19 ≤ x15 → eN h16 c17 13 11 [.int 0, .null, .null, .null, .null, .int 0, .int 0, .int 0, .int 0, .int 0, .null] (fun w31 h32 c33 => eK c33 (fun c35 k34 => T_X14_init g w31 a0 x15 h32 k34 (fun h36 => eR h36 w31 13 1 (fun v37 => eR h36 v37 6 2 (fun v38 => eP h36 w31 13 4 (.ref v38) (fun h39 => eC h39 w31 13 (eK c35 (fun c41 k40 => T_X14_filter g w31 h39 k40 (fun h42 => eR h42 w31 13 4 (fun v43 => eAd g h42 w11 v43 c41 (fun h44 c45 => X14 (x15 + 1) h44 c45))))))))))))))) → X14 x15 h16 c17) → X14 0 h12 c13)) (fun Ez => KX Ez hp))) → J7 x8) → (¬ n2 = 0 → J7 0) ∧ (n2 = 0 → eR hp a0 0 8 (fun v4 => eEm hp v4 (fun n5 => (¬ n5 = 0 → J7 0) ∧ (n5 = 0 → J7 1))))))
set_option maxHeartbeats 8000000 in
theorem C_X1_anew {g : qh_G} {x : qc_X} {d : Nat} {sd : String → Nat → Nat} (hO : qc_O g x) (hP : qc_P g qp_ts sd) (a0 : Nat) (hp : qc_H) (c : Nat) (K : Nat → qc_H → Prop) (KX : String → qc_H → Prop) (hz : T_X1_anew g a0 hp c K KX) : qc_S g x (d + 14) c I_X1_anew [.ref a0] hp (oX (oR K) KX) := by
  refine qc_S.of (by decide) rfl (ls := [some (.ref a0), none, none, none]) rfl (Nat.le_of_ble_eq_true rfl) (ct_c rfl ct_n) ?_
  unfold T_X1_anew at hz
  have h := hz
  clear hz
  refine qc_aload_n E_X1_anew (by rfl) dX1_anew_0 ?_
  refine re_getR E_X1_anew rfl ck_X1 (by decide) 5 (by decide) q305 dX1_anew_1 h ?_
  clear h
  intro v1 h
  refine re_empty (d := d + 8) hO E_X1_anew rfl q1250 (Nat.le_of_ble_eq_true rfl) dX1_anew_4 h ?_
  clear h
  intro n2 h
  have jz := h (fun (x8 : Int32) => qc_wp g x (d + 14) c I_X1_anew 25 [some (.ref a0), none, none, none] [.int x8] hp (oX (oR K) KX))
  clear h
  have h := jz (by
    intro x8 h
    obtain ⟨c10, k9, rfl, h⟩ := h
    refine qc_callS (c := c10) (k := k9) (As := [.int x8]) (rest := []) E_X1_anew rfl M_X1_allowed rfl q594 q595 rfl rfl (Nat.le_of_ble_eq_true rfl) dX1_anew_25 (qc_S.mono ?_ (C_X1_allowed (d := d + 13) hO hP x8 hp k9 _ _ h))
    clear h
    rintro _ tz (hz | hz)
    · obtain ⟨rfl, rfl, h⟩ := hz
      refine K1_v ?_
      refine re_newL (d := d + 8) hO E_X1_anew rfl q204 q206 (Nat.le_of_ble_eq_true rfl) dX1_anew_28 dX1_anew_31 dX1_anew_32 h ?_
      clear h
      intro w11 h12 c13 h
      refine qc_astore_n E_X1_anew (by decide) dX1_anew_35 ?_
      refine qc_iconst E_X1_anew 0 (by decide) dX1_anew_36 ?_
      refine qc_istore_n E_X1_anew (by decide) dX1_anew_37 ?_
      refine h (fun (x15 : Int32) (h16 : qc_H) (c17 : Nat) => qc_wp g x (d + 14) c17 I_X1_anew 38 [some (.ref a0), some (.ref w11), some (.int x15), none] [] h16 (oX (oR K) KX)) ?_
      clear h
      intro x15 h16 c17 h
      refine qc_iload_n E_X1_anew (by rfl) dX1_anew_38 ?_
      refine qc_aload_n E_X1_anew (by rfl) dX1_anew_39 ?_
      refine re_getR E_X1_anew rfl ck_X1 (by decide) 5 (by decide) q305 dX1_anew_40 h ?_
      clear h
      intro v18 h
      refine re_size (d := d + 8) hO E_X1_anew rfl q366 (Nat.le_of_ble_eq_true rfl) dX1_anew_43 h ?_
      clear h
      intro n19 h
      refine qc_icmp_ge E_X1_anew 89 dX1_anew_46 (by decide) (fun (c20 : n19 ≤ x15) => ?_) (fun (c20 : ¬ n19 ≤ x15) => ?_)
      · replace h := h.1 c20
        refine re_new hO E_X1_anew rfl ck_X6 q231 q232 q93 df_X6 dX1_anew_89 h ?_
        clear h
        intro w21 h22 c23 h
        refine qc_dup E_X1_anew rfl dX1_anew_92 ?_
        obtain ⟨c25, k24, rfl, h⟩ := h
        refine qc_callIN (c := c25) (k := k24) (As := []) (rest := [.ref w21]) E_X1_anew rfl M_X6_init rfl rfl rfl (hO.2.1 _ (qj_N q233 rfl)) q234 rfl rfl (Nat.le_of_ble_eq_true rfl) dX1_anew_93 (qc_S.mono ?_ (C_X6_init (d := d + 7) hO hP w21 h22 k24 _ h))
        clear h
        rintro _ h26 ⟨rfl, h⟩
        refine K1_v ?_
        refine qc_astore_n E_X1_anew (by decide) dX1_anew_96 ?_
        refine qc_aload_n E_X1_anew (by rfl) dX1_anew_97 ?_
        refine qc_aload_n E_X1_anew (by rfl) dX1_anew_98 ?_
        refine qc_aload_n E_X1_anew (by rfl) dX1_anew_99 ?_
        obtain ⟨⟨fz, hb⟩, c28, k27, rfl, h⟩ := h
        refine qc_callV (c := c28) (k := k27) (As := [.ref w11, .ref w21]) (rest := []) hO E_X1_anew rfl M_X1_walk rfl q1523 q1525 qs24 (ci := 0) rfl rfl hb rfl rfl (Nat.le_of_ble_eq_true rfl) dX1_anew_100 (qc_S.mono ?_ (C_X1_walk (d := d) hO hP a0 w11 w21 h26 k27 _ h))
        clear h
        clear hb
        rintro _ h29 ⟨rfl, h⟩
        refine K1_v ?_
        refine qc_aload_n E_X1_anew (by rfl) dX1_anew_103 ?_
        refine qc_aload_n E_X1_anew (by rfl) dX1_anew_104 ?_
        obtain ⟨⟨fz, hb⟩, h⟩ := h
        refine qc_callV (c := c28) (k := 0) (As := [.ref w21]) (rest := []) hO E_X1_anew rfl M_X1_cut rfl q1549 q1551 qs28 (ci := 0) rfl rfl hb rfl rfl (Nat.le_of_ble_eq_true rfl) dX1_anew_105 (qc_S.mono ?_ (C_X1_cut (d := d + 7) hO hP a0 w21 h29 _ h))
        clear h
        clear hb
        rintro _ h30 ⟨rfl, h⟩
        refine K1_v ?_
        refine qc_aload_n E_X1_anew (by rfl) dX1_anew_108 ?_
        exact qc_aret E_X1_anew rfl (Or.inl ⟨_, rfl⟩) (Or.inr ⟨_, rfl⟩) dX1_anew_109 (Or.inl (⟨_, rfl, h⟩))
      · replace h := h.2 c20
        refine re_new hO E_X1_anew rfl ck_X14 q1254 q1256 q122 df_X14 dX1_anew_49 h ?_
        clear h
        intro w31 h32 c33 h
        refine qc_dup E_X1_anew rfl dX1_anew_52 ?_
        refine qc_aload_n E_X1_anew (by rfl) dX1_anew_53 ?_
        refine qc_iload_n E_X1_anew (by rfl) dX1_anew_54 ?_
        obtain ⟨c35, k34, rfl, h⟩ := h
        refine qc_callI (c := c35) (k := k34) (As := [.ref a0, .int x15]) (rest := [.ref w31]) E_X1_anew rfl M_X14_init rfl rfl rfl q1257 q1258 rfl rfl (Nat.le_of_ble_eq_true rfl) dX1_anew_55 (qc_S.mono ?_ (C_X14_init (d := d + 7) hO hP w31 a0 x15 h32 k34 _ h))
        clear h
        rintro _ h36 ⟨rfl, h⟩
        refine K1_v ?_
        refine qc_astore_n E_X1_anew (by decide) dX1_anew_58 ?_
        refine qc_aload_n E_X1_anew (by rfl) dX1_anew_59 ?_
        refine qc_aload_n E_X1_anew (by rfl) dX1_anew_60 ?_
        refine re_getR E_X1_anew rfl ck_X14 (by decide) 1 (by decide) q1291 dX1_anew_61 h ?_
        clear h
        intro v37 h
        refine re_getR E_X1_anew rfl ck_X7 (by decide) 2 (by decide) q278 dX1_anew_64 h ?_
        clear h
        intro v38 h
        refine re_put E_X1_anew rfl ck_X14 (by decide) 4 (by decide) q1296 rfl rfl rfl dX1_anew_67 h ?_
        clear h
        intro h39 h
        refine qc_aload_n E_X1_anew (by rfl) dX1_anew_70 ?_
        obtain ⟨⟨fz, hb⟩, c41, k40, rfl, h⟩ := h
        refine qc_callV (c := c41) (k := k40) (As := []) (rest := []) hO E_X1_anew rfl M_X14_filter rfl q1506 q1507 q1508 (ci := 13) rfl rfl hb rfl rfl (Nat.le_of_ble_eq_true rfl) dX1_anew_71 (qc_S.mono ?_ (C_X14_filter (d := d + 6) hO hP w31 h39 k40 _ h))
        clear h
        clear hb
        rintro _ h42 ⟨rfl, h⟩
        refine K1_v ?_
        refine qc_aload_n E_X1_anew (by rfl) dX1_anew_74 ?_
        refine qc_aload_n E_X1_anew (by rfl) dX1_anew_75 ?_
        refine re_getR E_X1_anew rfl ck_X14 (by decide) 4 (by decide) q1296 dX1_anew_76 h ?_
        clear h
        intro v43 h
        refine re_add (d := d + 8) hO E_X1_anew rfl q982 (Nat.le_of_ble_eq_true rfl) dX1_anew_79 h ?_
        clear h
        intro h44 c45 h
        refine qc_pop E_X1_anew rfl dX1_anew_82 ?_
        refine qc_iinc E_X1_anew 1 rfl (by decide) (by decide) dX1_anew_83 ?_
        refine qc_goto E_X1_anew 38 dX1_anew_86 (by decide) ?_
        refine qc_drop 3 ?_
        exact h
    · revert tz; rintro _ ⟨Ez, rfl, rfl, h⟩
      refine K1_x ?_
      exact qc_out (by decide) (Or.inr ⟨_, rfl, h⟩))
  clear jz
  refine qc_if_ne E_X1_anew 24 dX1_anew_7 (by decide) (fun (c3 : ¬ n2 = 0) => ?_) (fun (c3 : n2 = 0) => ?_)
  · replace h := h.1 c3
    refine qc_iconst E_X1_anew 0 (by decide) dX1_anew_24 ?_
    exact h
  · replace h := h.2 c3
    refine qc_aload_n E_X1_anew (by rfl) dX1_anew_10 ?_
    refine re_getR E_X1_anew rfl ck_X1 (by decide) 8 (by decide) q309 dX1_anew_11 h ?_
    clear h
    intro v4 h
    refine re_empty (d := d + 8) hO E_X1_anew rfl q1250 (Nat.le_of_ble_eq_true rfl) dX1_anew_14 h ?_
    clear h
    intro n5 h
    refine qc_if_ne E_X1_anew 24 dX1_anew_17 (by decide) (fun (c6 : ¬ n5 = 0) => ?_) (fun (c6 : n5 = 0) => ?_)
    · replace h := h.1 c6
      refine qc_iconst E_X1_anew 0 (by decide) dX1_anew_24 ?_
      exact h
    · replace h := h.2 c6
      refine qc_iconst E_X1_anew 1 (by decide) dX1_anew_20 ?_
      refine qc_goto E_X1_anew 25 dX1_anew_21 (by decide) ?_
      exact h
def I_X1_answersAnew : qh_I := (yX1_answersAnew, cX1_answersAnew, 1, (Option.some Jvm.ClassFile.FieldType.int), [])
theorem E_X1_answersAnew : I_X1_answersAnew.2.1 = cX1_answersAnew := rfl
theorem M_X1_answersAnew : qh_M I_X1_answersAnew 0 := ⟨by decide, by decide, by decide +kernel, q85, q1584, by decide⟩
def T_X1_answersAnew (g : qh_G) (a0 : Nat) (hp : qc_H) (c : Nat) (K : Int32 → qc_H → Prop) (KX : String → qc_H → Prop) : Prop := eC hp a0 0 (eK c (fun c2 k1 => T_X1_anew g a0 hp k1 (fun r3 h4 => eR h4 r3 5 0 (fun v6 => eSz h4 v6 (fun n7 => K n7 h4))) (fun Ez h5 => KX Ez h5)))
set_option maxHeartbeats 8000000 in
theorem C_X1_answersAnew {g : qh_G} {x : qc_X} {d : Nat} {sd : String → Nat → Nat} (hO : qc_O g x) (hP : qc_P g qp_ts sd) (a0 : Nat) (hp : qc_H) (c : Nat) (K : Int32 → qc_H → Prop) (KX : String → qc_H → Prop) (hz : T_X1_answersAnew g a0 hp c K KX) : qc_S g x (d + 15) c I_X1_answersAnew [.ref a0] hp (oX (oI K) KX) := by
  refine qc_S.of (by decide) rfl (ls := [some (.ref a0)]) rfl (Nat.le_of_ble_eq_true rfl) (ct_c rfl ct_n) ?_
  unfold T_X1_answersAnew at hz
  have h := hz
  clear hz
  refine qc_aload_n E_X1_answersAnew (by rfl) dX1_answersAnew_0 ?_
  obtain ⟨⟨fz, hb⟩, c2, k1, rfl, h⟩ := h
  refine qc_callV (c := c2) (k := k1) (As := []) (rest := []) hO E_X1_answersAnew rfl M_X1_anew rfl q1585 q1587 qs30 (ci := 0) rfl rfl hb rfl rfl (Nat.le_of_ble_eq_true rfl) dX1_answersAnew_1 (qc_S.mono ?_ (C_X1_anew (d := d) hO hP a0 hp k1 _ _ h))
  clear h
  clear hb
  rintro _ tz (hz | hz)
  · revert tz; rintro h4 ⟨r3, rfl, h⟩
    refine K1_r ?_
    refine re_getR E_X1_answersAnew rfl ck_X6 (by decide) 0 (by decide) q240 dX1_answersAnew_4 h ?_
    clear h
    intro v6 h
    refine re_size (d := d + 9) hO E_X1_answersAnew rfl q366 (Nat.le_of_ble_eq_true rfl) dX1_answersAnew_7 h ?_
    clear h
    intro n7 h
    exact qc_iret E_X1_answersAnew rfl dX1_answersAnew_10 (Or.inl (⟨_, rfl, h⟩))
  · revert tz; rintro h5 ⟨Ez, rfl, h⟩
    refine K1_x ?_
    exact qc_out (by decide) (Or.inr ⟨_, rfl, h⟩)
def I_X1_answerAnew : qh_I := (yX1_answerAnew, cX1_answerAnew, 3, (Option.some Jvm.ClassFile.FieldType.int), [])
theorem E_X1_answerAnew : I_X1_answerAnew.2.1 = cX1_answerAnew := rfl
theorem M_X1_answerAnew : qh_M I_X1_answerAnew 2 := ⟨by decide, by decide, by decide +kernel, q85, q1595, by decide⟩
def T_X1_answerAnew (g : qh_G) (a0 : Nat) (a1 : Int32) (a2 : Int32) (hp : qc_H) (c : Nat) (K : Int32 → qc_H → Prop) (KX : String → qc_H → Prop) : Prop := eC hp a0 0 (eK c (fun c2 k1 => T_X1_anew g a0 hp k1 (fun r3 h4 => eC h4 a0 0 (eK c2 (fun c7 k6 => T_X1_cellOf g a0 r3 a1 a2 h4 k6 (fun r8 => K r8 h4) (fun Ez => KX Ez h4)))) (fun Ez h5 => KX Ez h5)))
set_option maxHeartbeats 8000000 in
theorem C_X1_answerAnew {g : qh_G} {x : qc_X} {d : Nat} {sd : String → Nat → Nat} (hO : qc_O g x) (hP : qc_P g qp_ts sd) (a0 : Nat) (a1 : Int32) (a2 : Int32) (hp : qc_H) (c : Nat) (K : Int32 → qc_H → Prop) (KX : String → qc_H → Prop) (hz : T_X1_answerAnew g a0 a1 a2 hp c K KX) : qc_S g x (d + 15) c I_X1_answerAnew [.ref a0, .int a1, .int a2] hp (oX (oI K) KX) := by
  refine qc_S.of (by decide) rfl (ls := [some (.ref a0), some (.int a1), some (.int a2)]) rfl (Nat.le_of_ble_eq_true rfl) (ct_c rfl (ct_c rfl (ct_c rfl ct_n))) ?_
  unfold T_X1_answerAnew at hz
  have h := hz
  clear hz
  refine qc_aload_n E_X1_answerAnew (by rfl) dX1_answerAnew_0 ?_
  refine qc_aload_n E_X1_answerAnew (by rfl) dX1_answerAnew_1 ?_
  obtain ⟨⟨fz, hb⟩, c2, k1, rfl, h⟩ := h
  refine qc_callV (c := c2) (k := k1) (As := []) (rest := [.ref a0]) hO E_X1_answerAnew rfl M_X1_anew rfl q1585 q1587 qs30 (ci := 0) rfl rfl hb rfl rfl (Nat.le_of_ble_eq_true rfl) dX1_answerAnew_2 (qc_S.mono ?_ (C_X1_anew (d := d) hO hP a0 hp k1 _ _ h))
  clear h
  clear hb
  rintro _ tz (hz | hz)
  · revert tz; rintro h4 ⟨r3, rfl, h⟩
    refine K1_r ?_
    refine qc_iload_n E_X1_answerAnew (by rfl) dX1_answerAnew_5 ?_
    refine qc_iload_n E_X1_answerAnew (by rfl) dX1_answerAnew_6 ?_
    obtain ⟨⟨fz, hb⟩, c7, k6, rfl, h⟩ := h
    refine qc_callV (c := c7) (k := k6) (As := [.ref r3, .int a1, .int a2]) (rest := []) hO E_X1_answerAnew rfl M_X1_cellOf rfl q1560 q1562 qs29 (ci := 0) rfl rfl hb rfl rfl (Nat.le_of_ble_eq_true rfl) dX1_answerAnew_7 (qc_S.mono ?_ (C_X1_cellOf (d := d + 8) hO hP a0 r3 a1 a2 h4 k6 _ _ h))
    clear h
    clear hb
    rintro _ tz (hz | hz)
    · obtain ⟨r8, rfl, rfl, h⟩ := hz
      refine K1_i ?_
      exact qc_iret E_X1_answerAnew rfl dX1_answerAnew_10 (Or.inl (⟨_, rfl, h⟩))
    · revert tz; rintro _ ⟨Ez, rfl, rfl, h⟩
      refine K1_x ?_
      exact qc_out (by decide) (Or.inr ⟨_, rfl, h⟩)
  · revert tz; rintro h5 ⟨Ez, rfl, h⟩
    refine K1_x ?_
    exact qc_out (by decide) (Or.inr ⟨_, rfl, h⟩)
