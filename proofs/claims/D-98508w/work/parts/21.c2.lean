set_option maxRecDepth 100000
set_option maxHeartbeats 4000000 in
noncomputable def F_X6_opens (s : St) (this : Nat)  : Option ((Unit ⊕ Nat) × St) := gd (isRd s this) <| if (si s this 6) = (8 : Int32) then (gd (okN s 7) <| nam (newO s (7, 0) 7) fun s12 => gd (isRd s12 this) <| bnd (F_X8_init s12 (sn s) (si s12 this 3)) fun _ s16 => gd (isK s16 (sn s) 7) <| some (.inr (sn s), s16)) else (gd (isRd s this) <| gd (isRd s this) <| nam (setI s this 6 ((si s this 6) + (1 : Int32))) fun s5 => gd (isRd s5 this) <| bnd (F_X6_next s5 this) fun _ s9 => some (.inl (), s9))
set_option maxHeartbeats 4000000 in
theorem c_X6_opens {l : Launch} {E : EV} (hE : GE E) (h0 : ∀ σ, eSk E σ) {s s' : St} {r : (Unit ⊕ Nat)} {this : Nat}  (h : F_X6_opens  s this = some (r, s')) : CTX l E yX6_opens cX6_opens 1 none 4 89 [vr (some this)] s (oX (fun v => none) 7 r) s' := by
  refine CTX.start hE (by decide) rfl [(0, vr (some this))] rfl (fun X hX B ht => ?_)
  skip
  have B : FX X E cX6_opens 1 none "RoseThrow$Reader" "opens" (sn s) (ss s) 4 89 := B
  unfold F_X6_opens at h
  refine r_aload_n (j := 0) B dX6_opens_0 rfl rfl ?_
  obtain ⟨hg1, h⟩ := gd_e h
  refine gRd (k := 6) B (vi (si s this 6)) rfl (fun _ => isRd_e hg1) rfl q713 q713 rfl rfl rfl rfl dX6_opens_1 ?_
  refine r_bipush (v := 8) B dX6_opens_4 (by decide) ?_
  refine r_ic_ne (tgt := 21) B dX6_opens_6 (by decide) (fun cn2 => ?_) (fun cn2 => ?_)
  · have h := of cn2 h
    refine r_aload_n (j := 0) B dX6_opens_21 rfl rfl ?_
    refine r_dup B dX6_opens_22 rfl ?_
    obtain ⟨hg3, h⟩ := gd_e h
    refine gRd (k := 6) B (vi (si s this 6)) rfl (fun _ => isRd_e hg3) rfl q713 q713 rfl rfl rfl rfl dX6_opens_23 ?_
    refine r_iconst (v := 1) B dX6_opens_26 (by decide) ?_
    refine r_iadd B dX6_opens_27 ?_
    obtain ⟨hg4, h⟩ := gd_e h
    obtain ⟨s5, e6, h⟩ := nam_e h
    refine pIRd (k := 6) B e6 rfl (fun _ => isRd_e hg4) rfl q713 q713 rfl rfl rfl rfl (fun _ _ _ => rfl) (fun _ _ _ => rfl) rfl rfl dX6_opens_28 ?_
    refine r_aload_n (j := 0) B dX6_opens_31 rfl rfl ?_
    obtain ⟨hg7, h⟩ := gd_e h
    obtain ⟨r8, s9, hc10, h⟩ := bnd_e h
    refine r_callV0 (As := []) (rest := []) B rfl rfl EX.same (c_X6_next B.ge h0 hc10) (cw_X6_next rfl rfl) (fun _ => (isRd_e hg7).elim (fun e => RV.of 6 e rfl rfl q745) (fun e => RV.of 17 e rfl rfl q746)) q742 q743 rfl dX6_opens_32 ?_
    cases h
    exact r_ret (r_vret B dX6_opens_35 rfl)
  · have h := ot cn2 h
    obtain ⟨hg11, h⟩ := gd_e h
    obtain ⟨s12, e13, h⟩ := nam_e h
    refine r_new B e13 hg11 (c := 7) rfl (by decide) rfl in_X8 tyX8_ok rfl q822 q823 q144 (fun _ => h0 _) dX6_opens_9 ?_
    refine r_dup B dX6_opens_12 rfl ?_
    refine r_aload_n (j := 0) B dX6_opens_13 rfl rfl ?_
    obtain ⟨hg14, h⟩ := gd_e h
    refine gRd (k := 3) B (vi (si s12 this 3)) rfl (fun _ => isRd_e hg14) rfl q710 q710 rfl rfl rfl rfl dX6_opens_14 ?_
    obtain ⟨r15, s16, hc17, h⟩ := bnd_e h
    refine r_callI (As := [vi (si s12 this 3)]) (rest := [vr (some (sn s))]) B rfl rfl EX.same (c_X8_init B.ge h0 hc17) (cw_X8_init rfl rfl) rfl q831 q832 rfl dX6_opens_17 ?_
    obtain ⟨hg18, h⟩ := gd_e h
    cases h
    exact r_athrow B rfl dX6_opens_20 (r_out B ht (isK_e hg18) rfl (by decide) rfl)
set_option maxHeartbeats 4000000 in
theorem cw_X6_opens {X : CX} {fr lo : Nat} (h1 : Nat.ble (4 + 1) fr = true) (h2 : Nat.ble (20 + 89) lo = true) : CW X fr lo yX6_opens cX6_opens 1 none 4 89 0 := ⟨q889, q139, ⟨by decide +kernel, by decide +kernel, by decide +kernel⟩, Nat.le_of_ble_eq_true h1, Nat.le_of_ble_eq_true h2⟩

set_option maxHeartbeats 4000000 in
noncomputable def F_X6_takes (s : St) (this : Nat) (p0 : Option Nat) : Option (Int32 × St) := gd (isRd s this) <| bnd (F_X6_is s this p0) fun r2 s3 => if r2 = 0 then (gd (fits .boolean (.int r2)) <| some (r2, s3)) else (gd (isRd s3 this) <| bnd (F_X6_next s3 this) fun _ s9 => gd (fits .boolean (.int r2)) <| some (r2, s9))
set_option maxHeartbeats 4000000 in
theorem c_X6_takes {l : Launch} {E : EV} (hE : GE E) (h0 : ∀ σ, eSk E σ) {s s' : St} {r : Int32} {this : Nat} {p0 : Option Nat} (h : F_X6_takes  s this p0 = some (r, s')) : CT l E yX6_takes cX6_takes 3 (some .boolean) 6 128 [vr (some this), vr p0] s (some (vi r)) s' := by
  refine CT.start hE (by decide) rfl [(0, vr (some this)), (1, vr p0)] rfl (fun X hX B => ?_)
  skip
  have B : FX X E cX6_takes 3 (some .boolean) "RoseThrow$Reader" "takes" (sn s) (ss s) 6 128 := B
  unfold F_X6_takes at h
  refine r_aload_n (j := 0) B dX6_takes_0 rfl rfl ?_
  refine r_aload_n (j := 1) B dX6_takes_1 rfl rfl ?_
  obtain ⟨hg1, h⟩ := gd_e h
  obtain ⟨r2, s3, hc4, h⟩ := bnd_e h
  refine r_callVv (As := [vr p0]) (rest := []) B rfl rfl EX.same (c_X6_is B.ge h0 hc4) (cw_X6_is rfl rfl) (fun _ => (isRd_e hg1).elim (fun e => RV.of 6 e rfl rfl q2253) (fun e => RV.of 17 e rfl rfl q2254)) q883 q765 rfl dX6_takes_2 ?_
  refine r_istore_n (L' := [(0, vr (some this)), (1, vr p0), (2, vi r2)]) B dX6_takes_5 rfl (by decide) rfl rfl rfl ?_
  refine r_iload_n (j := 2) B dX6_takes_6 rfl rfl ?_
  refine r_if_eq (tgt := 14) B dX6_takes_7 (by decide) (fun cn5 => ?_) (fun cn5 => ?_)
  · have h := ot cn5 h
    refine r_iload_n (j := 2) B dX6_takes_14 rfl rfl ?_
    obtain ⟨hg6, h⟩ := gd_e h
    exact r_zret B dX6_takes_15 hg6 h
  · have h := of cn5 h
    refine r_aload_n (j := 0) B dX6_takes_10 rfl rfl ?_
    obtain ⟨hg7, h⟩ := gd_e h
    obtain ⟨r8, s9, hc10, h⟩ := bnd_e h
    refine r_callV0 (As := []) (rest := []) B rfl rfl EX.same (c_X6_next B.ge h0 hc10) (cw_X6_next rfl rfl) (fun _ => (isRd_e hg7).elim (fun e => RV.of 6 e rfl rfl q745) (fun e => RV.of 17 e rfl rfl q746)) q742 q743 rfl dX6_takes_11 ?_
    refine r_iload_n (j := 2) B dX6_takes_14 rfl rfl ?_
    obtain ⟨hg11, h⟩ := gd_e h
    exact r_zret B dX6_takes_15 hg11 h
set_option maxHeartbeats 4000000 in
theorem cw_X6_takes {X : CX} {fr lo : Nat} (h1 : Nat.ble (6 + 1) fr = true) (h2 : Nat.ble (22 + 128) lo = true) : CW X fr lo yX6_takes cX6_takes 3 (some .boolean) 6 128 1 := ⟨q903, q139, ⟨by decide +kernel, by decide +kernel, by decide +kernel⟩, Nat.le_of_ble_eq_true h1, Nat.le_of_ble_eq_true h2⟩

set_option maxHeartbeats 4000000 in
noncomputable def F_X6_need (s : St) (this : Nat) (p0 : Option Nat) : Option ((Unit ⊕ Nat) × St) := gd (isRd s this) <| bnd (F_X6_takes s this p0) fun r2 s3 => if r2 = 0 then (gd (okN s3 7) <| nam (newO s3 (7, 0) 7) fun s7 => gd (isRd s7 this) <| bnd (F_X8_init s7 (sn s3) (si s7 this 3)) fun _ s11 => gd (isK s11 (sn s3) 7) <| some (.inr (sn s3), s11)) else (some (.inl (), s3))
set_option maxHeartbeats 4000000 in
theorem c_X6_need {l : Launch} {E : EV} (hE : GE E) (h0 : ∀ σ, eSk E σ) {s s' : St} {r : (Unit ⊕ Nat)} {this : Nat} {p0 : Option Nat} (h : F_X6_need  s this p0 = some (r, s')) : CTX l E yX6_need cX6_need 2 none 7 150 [vr (some this), vr p0] s (oX (fun v => none) 7 r) s' := by
  refine CTX.start hE (by decide) rfl [(0, vr (some this)), (1, vr p0)] rfl (fun X hX B ht => ?_)
  skip
  have B : FX X E cX6_need 2 none "RoseThrow$Reader" "need" (sn s) (ss s) 7 150 := B
  unfold F_X6_need at h
  refine r_aload_n (j := 0) B dX6_need_0 rfl rfl ?_
  refine r_aload_n (j := 1) B dX6_need_1 rfl rfl ?_
  obtain ⟨hg1, h⟩ := gd_e h
  obtain ⟨r2, s3, hc4, h⟩ := bnd_e h
  refine r_callVv (As := [vr p0]) (rest := []) B rfl rfl EX.same (c_X6_takes B.ge h0 hc4) (cw_X6_takes rfl rfl) (fun _ => (isRd_e hg1).elim (fun e => RV.of 6 e rfl rfl q901) (fun e => RV.of 17 e rfl rfl q902)) q898 q899 rfl dX6_need_2 ?_
  refine r_if_ne (tgt := 20) B dX6_need_5 (by decide) (fun cn5 => ?_) (fun cn5 => ?_)
  · have h := of cn5 h
    cases h
    exact r_ret (r_vret B dX6_need_20 rfl)
  · have h := ot cn5 h
    obtain ⟨hg6, h⟩ := gd_e h
    obtain ⟨s7, e8, h⟩ := nam_e h
    refine r_new B e8 hg6 (c := 7) rfl (by decide) rfl in_X8 tyX8_ok rfl q822 q823 q144 (fun _ => h0 _) dX6_need_8 ?_
    refine r_dup B dX6_need_11 rfl ?_
    refine r_aload_n (j := 0) B dX6_need_12 rfl rfl ?_
    obtain ⟨hg9, h⟩ := gd_e h
    refine gRd (k := 3) B (vi (si s7 this 3)) rfl (fun _ => isRd_e hg9) rfl q710 q710 rfl rfl rfl rfl dX6_need_13 ?_
    obtain ⟨r10, s11, hc12, h⟩ := bnd_e h
    refine r_callI (As := [vi (si s7 this 3)]) (rest := [vr (some (sn s3))]) B rfl rfl EX.same (c_X8_init B.ge h0 hc12) (cw_X8_init rfl rfl) rfl q831 q832 rfl dX6_need_16 ?_
    obtain ⟨hg13, h⟩ := gd_e h
    cases h
    exact r_athrow B rfl dX6_need_19 (r_out B ht (isK_e hg13) rfl (by decide) rfl)
set_option maxHeartbeats 4000000 in
theorem cw_X6_need {X : CX} {fr lo : Nat} (h1 : Nat.ble (7 + 1) fr = true) (h2 : Nat.ble (21 + 150) lo = true) : CW X fr lo yX6_need cX6_need 2 none 7 150 1 := ⟨q897, q139, ⟨by decide +kernel, by decide +kernel, by decide +kernel⟩, Nat.le_of_ble_eq_true h1, Nat.le_of_ble_eq_true h2⟩

set_option maxHeartbeats 4000000 in
noncomputable def F_X6_leaf (s : St) (this : Nat)  : Option ((Unit ⊕ Nat) × St) := gd (isRd s this) <| if (si s this 5) = (50 : Int32) then (gd (okN s 7) <| nam (newO s (7, 0) 7) fun s8 => gd (isRd s8 this) <| bnd (F_X8_init s8 (sn s) (si s8 this 3)) fun _ s12 => gd (isK s12 (sn s) 7) <| some (.inr (sn s), s12)) else (gd (isRd s this) <| gd (isRd s this) <| nam (setI s this 5 ((si s this 5) + (1 : Int32))) fun s5 => some (.inl (), s5))
set_option maxHeartbeats 4000000 in
theorem c_X6_leaf {l : Launch} {E : EV} (hE : GE E) (h0 : ∀ σ, eSk E σ) {s s' : St} {r : (Unit ⊕ Nat)} {this : Nat}  (h : F_X6_leaf  s this = some (r, s')) : CTX l E yX6_leaf cX6_leaf 1 none 4 89 [vr (some this)] s (oX (fun v => none) 7 r) s' := by
  refine CTX.start hE (by decide) rfl [(0, vr (some this))] rfl (fun X hX B ht => ?_)
  skip
  have B : FX X E cX6_leaf 1 none "RoseThrow$Reader" "leaf" (sn s) (ss s) 4 89 := B
  unfold F_X6_leaf at h
  refine r_aload_n (j := 0) B dX6_leaf_0 rfl rfl ?_
  obtain ⟨hg1, h⟩ := gd_e h
  refine gRd (k := 5) B (vi (si s this 5)) rfl (fun _ => isRd_e hg1) rfl q712 q712 rfl rfl rfl rfl dX6_leaf_1 ?_
  refine r_bipush (v := 50) B dX6_leaf_4 (by decide) ?_
  refine r_ic_ne (tgt := 21) B dX6_leaf_6 (by decide) (fun cn2 => ?_) (fun cn2 => ?_)
  · have h := of cn2 h
    refine r_aload_n (j := 0) B dX6_leaf_21 rfl rfl ?_
    refine r_dup B dX6_leaf_22 rfl ?_
    obtain ⟨hg3, h⟩ := gd_e h
    refine gRd (k := 5) B (vi (si s this 5)) rfl (fun _ => isRd_e hg3) rfl q712 q712 rfl rfl rfl rfl dX6_leaf_23 ?_
    refine r_iconst (v := 1) B dX6_leaf_26 (by decide) ?_
    refine r_iadd B dX6_leaf_27 ?_
    obtain ⟨hg4, h⟩ := gd_e h
    obtain ⟨s5, e6, h⟩ := nam_e h
    refine pIRd (k := 5) B e6 rfl (fun _ => isRd_e hg4) rfl q712 q712 rfl rfl rfl rfl (fun _ _ _ => rfl) (fun _ _ _ => rfl) rfl rfl dX6_leaf_28 ?_
    cases h
    exact r_ret (r_vret B dX6_leaf_31 rfl)
  · have h := ot cn2 h
    obtain ⟨hg7, h⟩ := gd_e h
    obtain ⟨s8, e9, h⟩ := nam_e h
    refine r_new B e9 hg7 (c := 7) rfl (by decide) rfl in_X8 tyX8_ok rfl q822 q823 q144 (fun _ => h0 _) dX6_leaf_9 ?_
    refine r_dup B dX6_leaf_12 rfl ?_
    refine r_aload_n (j := 0) B dX6_leaf_13 rfl rfl ?_
    obtain ⟨hg10, h⟩ := gd_e h
    refine gRd (k := 3) B (vi (si s8 this 3)) rfl (fun _ => isRd_e hg10) rfl q710 q710 rfl rfl rfl rfl dX6_leaf_14 ?_
    obtain ⟨r11, s12, hc13, h⟩ := bnd_e h
    refine r_callI (As := [vi (si s8 this 3)]) (rest := [vr (some (sn s))]) B rfl rfl EX.same (c_X8_init B.ge h0 hc13) (cw_X8_init rfl rfl) rfl q831 q832 rfl dX6_leaf_17 ?_
    obtain ⟨hg14, h⟩ := gd_e h
    cases h
    exact r_athrow B rfl dX6_leaf_20 (r_out B ht (isK_e hg14) rfl (by decide) rfl)
set_option maxHeartbeats 4000000 in
theorem cw_X6_leaf {X : CX} {fr lo : Nat} (h1 : Nat.ble (4 + 1) fr = true) (h2 : Nat.ble (20 + 89) lo = true) : CW X fr lo yX6_leaf cX6_leaf 1 none 4 89 0 := ⟨q909, q139, ⟨by decide +kernel, by decide +kernel, by decide +kernel⟩, Nat.le_of_ble_eq_true h1, Nat.le_of_ble_eq_true h2⟩

set_option maxHeartbeats 4000000 in
noncomputable def F_X6_number_81 (s : St) (x0 : Option Nat) : Option ((Int32 ⊕ Nat) × St) := gd (okN s 7) <| nam (newO s (7, 0) 7) fun s2 => drf x0 fun a4 => gd (isRd s2 a4) <| bnd (F_X8_init s2 (sn s) (si s2 a4 3)) fun _ s8 => gd (isK s8 (sn s) 7) <| some (.inr (sn s), s8)
set_option maxHeartbeats 4000000 in
theorem w_X6_number_81 {X : CX} {E : EV} {a0 s' : St} {r : (Int32 ⊕ Nat)} (B : FX X E cX6_number 5 (some .int) "RoseThrow$Reader" "number" (sn a0) (ss a0) 4 89) (ht : ∀ x ∈ (xC X).exceptionTable.toList, False) (h0 : ∀ σ, eSk E σ) (s : St) (x0 : Option Nat) (h : F_X6_number_81   s x0 = some (r, s')) : J X E (sn a0) (ss a0) 5 (QZ X E a0 (oX (fun v => some (vi v)) 7 r) s') s 81 [(0, vr x0)] [] := by
  unfold F_X6_number_81 at h
  obtain ⟨hg1, h⟩ := gd_e h
  obtain ⟨s2, e3, h⟩ := nam_e h
  refine r_new B e3 hg1 (c := 7) rfl (by decide) rfl in_X8 tyX8_ok rfl q822 q823 q144 (fun _ => h0 _) dX6_number_81 ?_
  refine r_dup B dX6_number_84 rfl ?_
  refine r_aload_n (j := 0) B dX6_number_85 rfl rfl ?_
  obtain ⟨a4, ea5, h⟩ := drf_e h
  obtain ⟨hg6, h⟩ := gd_e h
  refine gRd (k := 3) B (vi (si s2 a4 3)) ea5 (fun _ => isRd_e hg6) rfl q710 q710 rfl rfl rfl rfl dX6_number_86 ?_
  obtain ⟨r7, s8, hc9, h⟩ := bnd_e h
  refine r_callI (As := [vi (si s2 a4 3)]) (rest := [vr (some (sn s))]) B rfl rfl EX.same (c_X8_init B.ge h0 hc9) (cw_X8_init rfl rfl) rfl q831 q832 rfl dX6_number_89 ?_
  obtain ⟨hg10, h⟩ := gd_e h
  cases h
  exact r_athrow B rfl dX6_number_92 (r_out B ht (isK_e hg10) rfl (by decide) rfl)
set_option maxHeartbeats 4000000 in
noncomputable def F_X6_number_71 (s : St) (x0 : Option Nat) (x1 : Int32) (x2 : Int32) (x3 : Int32) : Option ((Int32 ⊕ Nat) × St) := if x3 < x1 then (F_X6_number_81 s x0) else (if x3 ≤ x2 then (drf x0 fun a3 => gd (isRd s a3) <| bnd (F_X6_next s a3) fun _ s7 => some (.inl x3, s7)) else (F_X6_number_81 s x0))
set_option maxHeartbeats 4000000 in
theorem w_X6_number_71 {X : CX} {E : EV} {a0 s' : St} {r : (Int32 ⊕ Nat)} (B : FX X E cX6_number 5 (some .int) "RoseThrow$Reader" "number" (sn a0) (ss a0) 4 89) (ht : ∀ x ∈ (xC X).exceptionTable.toList, False) (h0 : ∀ σ, eSk E σ) (s : St) (x0 : Option Nat) (x1 : Int32) (x2 : Int32) (x3 : Int32) (h : F_X6_number_71   s x0 x1 x2 x3 = some (r, s')) : J X E (sn a0) (ss a0) 5 (QZ X E a0 (oX (fun v => some (vi v)) 7 r) s') s 71 [(0, vr x0), (1, vi x1), (2, vi x2), (3, vi x3)] [] := by
  unfold F_X6_number_71 at h
  refine r_iload_n (j := 3) B dX6_number_71 rfl rfl ?_
  refine r_iload_n (j := 1) B dX6_number_72 rfl rfl ?_
  refine r_ic_lt (tgt := 81) B dX6_number_73 (by decide) (fun cn1 => ?_) (fun cn1 => ?_)
  · have h := ot cn1 h
    refine r_pick [0] (L' := [(0, vr x0)]) rfl ?_
    exact w_X6_number_81 B ht h0 s x0 h
  · have h := of cn1 h
    refine r_iload_n (j := 3) B dX6_number_76 rfl rfl ?_
    refine r_iload_n (j := 2) B dX6_number_77 rfl rfl ?_
    refine r_ic_le (tgt := 93) B dX6_number_78 (by decide) (fun cn2 => ?_) (fun cn2 => ?_)
    · have h := ot cn2 h
      refine r_aload_n (j := 0) B dX6_number_93 rfl rfl ?_
      obtain ⟨a3, ea4, h⟩ := drf_e h
      obtain ⟨hg5, h⟩ := gd_e h
      obtain ⟨r6, s7, hc8, h⟩ := bnd_e h
      refine r_callV0 (As := []) (rest := []) B rfl ea4 EX.same (c_X6_next B.ge h0 hc8) (cw_X6_next rfl rfl) (fun _ => (isRd_e hg5).elim (fun e => RV.of 6 e rfl rfl q745) (fun e => RV.of 17 e rfl rfl q746)) q742 q743 rfl dX6_number_94 ?_
      refine r_iload_n (j := 3) B dX6_number_97 rfl rfl ?_
      cases h
      exact r_ret (r_iret B dX6_number_98 rfl)
    · have h := of cn2 h
      refine r_pick [0] (L' := [(0, vr x0)]) rfl ?_
      exact w_X6_number_81 B ht h0 s x0 h
set_option maxHeartbeats 4000000 in
noncomputable def F_X6_number_35 : Nat → St → Option Nat → Int32 → Int32 → Int32 → Int32 → Option ((Int32 ⊕ Nat) × St)
  | 0 => fun _ _ _ _ _ _ => none
  | n + 1 => fun s x0 x1 x2 x3 x4 => drf x0 fun a1 => gd (isRd s a1) <| if (si s a1 4) ≤ x4 then (F_X6_number_71 s x0 x1 x2 x3) else (if x2 < x3 then (F_X6_number_71 s x0 x1 x2 x3) else (drf x0 fun a6 => gd (isRd s a6) <| drf (sr s a6 0) fun a9 => gd (isK s a9 102) <| gd (inb x4 (sk s a9).2) <| nam ((((10 : Int32) * x3) + (si s a9 x4.toNatClampNeg)) - (48 : Int32)) fun y13 => F_X6_number_35  n s x0 x1 x2 y13 (x4 + (1))))
set_option maxHeartbeats 4000000 in
theorem w_X6_number_35 {X : CX} {E : EV} {a0 s' : St} {r : (Int32 ⊕ Nat)} (B : FX X E cX6_number 5 (some .int) "RoseThrow$Reader" "number" (sn a0) (ss a0) 4 89) (ht : ∀ x ∈ (xC X).exceptionTable.toList, False) (h0 : ∀ σ, eSk E σ) : ∀ (n : Nat) (s : St) (x0 : Option Nat) (x1 : Int32) (x2 : Int32) (x3 : Int32) (x4 : Int32), F_X6_number_35   n s x0 x1 x2 x3 x4 = some (r, s') → J X E (sn a0) (ss a0) 5 (QZ X E a0 (oX (fun v => some (vi v)) 7 r) s') s 35 [(0, vr x0), (1, vi x1), (2, vi x2), (3, vi x3), (4, vi x4)] [] := by
  intro n
  induction n with
  | zero => intro s x0 x1 x2 x3 x4 h; exact absurd (show (none : Option ((Int32 ⊕ Nat) × St)) = _ from h) (by simp)
  | succ n ih =>
    intro s x0 x1 x2 x3 x4 h
    rw [F_X6_number_35] at h
    refine r_iload (j := 4) B dX6_number_35 rfl ?_
    refine r_aload_n (j := 0) B dX6_number_37 rfl rfl ?_
    obtain ⟨a1, ea2, h⟩ := drf_e h
    obtain ⟨hg3, h⟩ := gd_e h
    refine gRd (k := 4) B (vi (si s a1 4)) ea2 (fun _ => isRd_e hg3) rfl q711 q711 rfl rfl rfl rfl dX6_number_38 ?_
    refine r_ic_ge (tgt := 71) B dX6_number_41 (by decide) (fun cn4 => ?_) (fun cn4 => ?_)
    · have h := ot cn4 h
      refine r_pick [0, 1, 2, 3] (L' := [(0, vr x0), (1, vi x1), (2, vi x2), (3, vi x3)]) rfl ?_
      exact w_X6_number_71 B ht h0 s x0 x1 x2 x3 h
    · have h := of cn4 h
      refine r_iload_n (j := 3) B dX6_number_44 rfl rfl ?_
      refine r_iload_n (j := 2) B dX6_number_45 rfl rfl ?_
      refine r_ic_gt (tgt := 71) B dX6_number_46 (by decide) (fun cn5 => ?_) (fun cn5 => ?_)
      · have h := ot cn5 h
        refine r_pick [0, 1, 2, 3] (L' := [(0, vr x0), (1, vi x1), (2, vi x2), (3, vi x3)]) rfl ?_
        exact w_X6_number_71 B ht h0 s x0 x1 x2 x3 h
      · have h := of cn5 h
        refine r_bipush (v := 10) B dX6_number_49 (by decide) ?_
        refine r_iload_n (j := 3) B dX6_number_51 rfl rfl ?_
        refine r_imul B dX6_number_52 ?_
        refine r_aload_n (j := 0) B dX6_number_53 rfl rfl ?_
        obtain ⟨a6, ea7, h⟩ := drf_e h
        obtain ⟨hg8, h⟩ := gd_e h
        refine gRd (k := 0) B (vr (sr s a6 0)) ea7 (fun _ => isRd_e hg8) rfl q707 q707 rfl rfl rfl rfl dX6_number_54 ?_
        refine r_iload (j := 4) B dX6_number_57 rfl ?_
        obtain ⟨a9, ea10, h⟩ := drf_e h
        obtain ⟨hg11, h⟩ := gd_e h
        obtain ⟨hg12, h⟩ := gd_e h
        refine r_bald B ea10 (fun _ => isK_a hg11) hg12 dX6_number_59 ?_
        refine r_iadd B dX6_number_60 ?_
        refine r_bipush (v := 48) B dX6_number_61 (by decide) ?_
        refine r_isub B dX6_number_63 ?_
        obtain ⟨y13, e14, h⟩ := nam_e h
        refine r_topi e14 ?_
        refine r_istore_n (L' := [(0, vr x0), (1, vi x1), (2, vi x2), (3, vi y13), (4, vi x4)]) B dX6_number_64 rfl (by decide) rfl rfl rfl ?_
        refine r_iinc (j := 4) (v := (x4 + (1))) (L' := [(0, vr x0), (1, vi x1), (2, vi x2), (3, vi y13), (4, vi (x4 + (1)))]) B dX6_number_65 rfl rfl (by decide) rfl rfl rfl ?_
        refine r_goto (tgt := 35) B dX6_number_68 (by decide) ?_
        exact ih s x0 x1 x2 y13 (x4 + (1)) h
set_option maxHeartbeats 4000000 in
noncomputable def F_X6_number (s : St) (this : Nat) (p0 : Int32) (p1 : Int32) : Option ((Int32 ⊕ Nat) × St) := gd (isRd s this) <| gd (isRd s this) <| bnd (F_X6_isIn s this (si s this 3) (48 : Int32) (57 : Int32)) fun r3 s4 => if r3 = 0 then (gd (okN s4 7) <| nam (newO s4 (7, 0) 7) fun s9 => gd (isRd s9 this) <| bnd (F_X8_init s9 (sn s4) (si s9 this 3)) fun _ s13 => gd (isK s13 (sn s4) 7) <| some (.inr (sn s4), s13)) else (gd (isRd s4 this) <| F_X6_number_35 FU s4 (some this) p0 p1 (0 : Int32) (si s4 this 3))
set_option maxHeartbeats 4000000 in
theorem c_X6_number {l : Launch} {E : EV} (hE : GE E) (h0 : ∀ σ, eSk E σ) {s s' : St} {r : (Int32 ⊕ Nat)} {this : Nat} {p0 : Int32} {p1 : Int32} (h : F_X6_number  s this p0 p1 = some (r, s')) : CTX l E yX6_number cX6_number 5 (some .int) 4 89 [vr (some this), vi p0, vi p1] s (oX (fun v => some (vi v)) 7 r) s' := by
  refine CTX.start hE (by decide) rfl [(0, vr (some this)), (1, vi p0), (2, vi p1)] rfl (fun X hX B ht => ?_)
  skip
  have B : FX X E cX6_number 5 (some .int) "RoseThrow$Reader" "number" (sn s) (ss s) 4 89 := B
  unfold F_X6_number at h
  refine r_aload_n (j := 0) B dX6_number_0 rfl rfl ?_
  refine r_aload_n (j := 0) B dX6_number_1 rfl rfl ?_
  obtain ⟨hg1, h⟩ := gd_e h
  refine gRd (k := 3) B (vi (si s this 3)) rfl (fun _ => isRd_e hg1) rfl q710 q710 rfl rfl rfl rfl dX6_number_2 ?_
  refine r_bipush (v := 48) B dX6_number_5 (by decide) ?_
  refine r_bipush (v := 57) B dX6_number_7 (by decide) ?_
  obtain ⟨hg2, h⟩ := gd_e h
  obtain ⟨r3, s4, hc5, h⟩ := bnd_e h
  refine r_callVv (As := [vi (si s this 3), vi (48 : Int32), vi (57 : Int32)]) (rest := []) B rfl rfl EX.same (c_X6_isIn B.ge h0 hc5) (cw_X6_isIn rfl rfl) (fun _ => (isRd_e hg2).elim (fun e => RV.of 6 e rfl rfl q751) (fun e => RV.of 17 e rfl rfl q752)) q748 q749 rfl dX6_number_9 ?_
  refine r_if_ne (tgt := 27) B dX6_number_12 (by decide) (fun cn6 => ?_) (fun cn6 => ?_)
  · have h := of cn6 h
    refine r_iconst (v := 0) B dX6_number_27 (by decide) ?_
    refine r_istore_n (L' := [(0, vr (some this)), (1, vi p0), (2, vi p1), (3, vi (0 : Int32))]) B dX6_number_28 rfl (by decide) rfl rfl rfl ?_
    refine r_aload_n (j := 0) B dX6_number_29 rfl rfl ?_
    obtain ⟨hg7, h⟩ := gd_e h
    refine gRd (k := 3) B (vi (si s4 this 3)) rfl (fun _ => isRd_e hg7) rfl q710 q710 rfl rfl rfl rfl dX6_number_30 ?_
    refine r_istore (L' := [(0, vr (some this)), (1, vi p0), (2, vi p1), (3, vi (0 : Int32)), (4, vi (si s4 this 3))]) B dX6_number_33 (by decide) rfl rfl rfl ?_
    exact w_X6_number_35 B ht h0 FU s4 (some this) p0 p1 (0 : Int32) (si s4 this 3) h
  · have h := ot cn6 h
    obtain ⟨hg8, h⟩ := gd_e h
    obtain ⟨s9, e10, h⟩ := nam_e h
    refine r_new B e10 hg8 (c := 7) rfl (by decide) rfl in_X8 tyX8_ok rfl q822 q823 q144 (fun _ => h0 _) dX6_number_15 ?_
    refine r_dup B dX6_number_18 rfl ?_
    refine r_aload_n (j := 0) B dX6_number_19 rfl rfl ?_
    obtain ⟨hg11, h⟩ := gd_e h
    refine gRd (k := 3) B (vi (si s9 this 3)) rfl (fun _ => isRd_e hg11) rfl q710 q710 rfl rfl rfl rfl dX6_number_20 ?_
    obtain ⟨r12, s13, hc14, h⟩ := bnd_e h
    refine r_callI (As := [vi (si s9 this 3)]) (rest := [vr (some (sn s4))]) B rfl rfl EX.same (c_X8_init B.ge h0 hc14) (cw_X8_init rfl rfl) rfl q831 q832 rfl dX6_number_23 ?_
    obtain ⟨hg15, h⟩ := gd_e h
    cases h
    exact r_athrow B rfl dX6_number_26 (r_out B ht (isK_e hg15) rfl (by decide) rfl)
set_option maxHeartbeats 4000000 in
theorem cw_X6_number {X : CX} {fr lo : Nat} (h1 : Nat.ble (4 + 1) fr = true) (h2 : Nat.ble (24 + 89) lo = true) : CW X fr lo yX6_number cX6_number 5 (some .int) 4 89 2 := ⟨q917, q139, ⟨by decide +kernel, by decide +kernel, by decide +kernel⟩, Nat.le_of_ble_eq_true h1, Nat.le_of_ble_eq_true h2⟩

set_option maxHeartbeats 4000000 in
noncomputable def F_X10_init (s : St) (this : Nat)  : Option (Unit × St) := some ((), s)
set_option maxHeartbeats 4000000 in
theorem c_X10_init {l : Launch} {E : EV} (hE : GE E) (h0 : ∀ σ, eSk E σ) {s s' : St} {r : Unit} {this : Nat}  (h : F_X10_init  s this = some (r, s')) : CT l E yX10_init cX10_init 1 none 1 20 [vr (some this)] s none s' := by
  refine CT.start hE (by decide) rfl [(0, vr (some this))] rfl (fun X hX B => ?_)
  skip
  have B : FX X E cX10_init 1 none "RoseThrow$Sum" "<init>" (sn s) (ss s) 1 20 := B
  unfold F_X10_init at h
  refine r_aload_n (j := 0) B dX10_init_0 rfl rfl ?_
  refine r_objInit B rfl q924 q168 q169 (by decide) (by decide) rfl dX10_init_1 ?_
  exact r_vret B dX10_init_4 h
set_option maxHeartbeats 4000000 in
theorem cw_X10_init {X : CX} {fr lo : Nat} (h1 : Nat.ble (1 + 1) fr = true) (h2 : Nat.ble (20 + 20) lo = true) : CW X fr lo yX10_init cX10_init 1 none 1 20 0 := ⟨q923, q146, ⟨by decide +kernel, by decide +kernel, by decide +kernel⟩, Nat.le_of_ble_eq_true h1, Nat.le_of_ble_eq_true h2⟩

set_option maxHeartbeats 4000000 in
noncomputable def F_X11_init (s : St) (this : Nat) (p0 : Int32) : Option (Unit × St) := bnd (F_X10_init s this) fun _ s2 => gd (isK s2 this 9) <| nam (setI s2 this 0 p0) fun s5 => some ((), s5)
set_option maxHeartbeats 4000000 in
theorem c_X11_init {l : Launch} {E : EV} (hE : GE E) (h0 : ∀ σ, eSk E σ) {s s' : St} {r : Unit} {this : Nat} {p0 : Int32} (h : F_X11_init  s this p0 = some (r, s')) : CT l E yX11_init cX11_init 2 none 2 40 [vr (some this), vi p0] s none s' := by
  refine CT.start hE (by decide) rfl [(0, vr (some this)), (1, vi p0)] rfl (fun X hX B => ?_)
  skip
  have B : FX X E cX11_init 2 none "RoseThrow$Number" "<init>" (sn s) (ss s) 2 40 := B
  unfold F_X11_init at h
  refine r_aload_n (j := 0) B dX11_init_0 rfl rfl ?_
  obtain ⟨r1, s2, hc3, h⟩ := bnd_e h
  refine r_callIN (As := []) (rest := []) B rfl rfl EX.same (c_X10_init B.ge h0 hc3) (cw_X10_init rfl rfl) rfl (lw_n q921 rfl) q922 rfl dX11_init_1 ?_
  refine r_aload_n (j := 0) B dX11_init_4 rfl rfl ?_
  refine r_iload_n (j := 1) B dX11_init_5 rfl rfl ?_
  obtain ⟨hg4, h⟩ := gd_e h
  obtain ⟨s5, e6, h⟩ := nam_e h
  refine pI9F (k := 0) B e6 rfl (fun _ => isK_e hg4) rfl q925 rfl rfl rfl rfl (fun _ _ _ => rfl) rfl dX11_init_6 ?_
  exact r_vret B dX11_init_9 h
set_option maxHeartbeats 4000000 in
theorem cw_X11_init {X : CX} {fr lo : Nat} (h1 : Nat.ble (2 + 1) fr = true) (h2 : Nat.ble (21 + 40) lo = true) : CW X fr lo yX11_init cX11_init 2 none 2 40 1 := ⟨q920, q147, ⟨by decide +kernel, by decide +kernel, by decide +kernel⟩, Nat.le_of_ble_eq_true h1, Nat.le_of_ble_eq_true h2⟩

set_option maxHeartbeats 4000000 in
noncomputable def F_X6_isValue (s : St) (this : Nat) (p0 : Option Nat) : Option ((Int32 ⊕ Nat) × St) := gd (isRd s this) <| bnd (F_X6_is s this p0) fun r2 s3 => if r2 = 0 then (some (.inl (0 : Int32), s3)) else (gd (isRd s3 this) <| bnx (F_X6_leaf s3 this) (fun b10 s8 => some (.inr b10, s8)) <| fun _ s8 => gd (isRd s8 this) <| bnd (F_X6_next s8 this) fun _ s13 => some (.inl (1 : Int32), s13))
set_option maxHeartbeats 4000000 in
theorem c_X6_isValue {l : Launch} {E : EV} (hE : GE E) (h0 : ∀ σ, eSk E σ) {s s' : St} {r : (Int32 ⊕ Nat)} {this : Nat} {p0 : Option Nat} (h : F_X6_isValue  s this p0 = some (r, s')) : CTX l E yX6_isValue cX6_isValue 2 (some .boolean) 6 128 [vr (some this), vr p0] s (oX (fun v => some (vi v)) 7 r) s' := by
  refine CTX.start hE (by decide) rfl [(0, vr (some this)), (1, vr p0)] rfl (fun X hX B ht => ?_)
  skip
  have B : FX X E cX6_isValue 2 (some .boolean) "RoseThrow$Reader" "isValue" (sn s) (ss s) 6 128 := B
  unfold F_X6_isValue at h
  refine r_aload_n (j := 0) B dX6_isValue_0 rfl rfl ?_
  refine r_aload_n (j := 1) B dX6_isValue_1 rfl rfl ?_
  obtain ⟨hg1, h⟩ := gd_e h
  obtain ⟨r2, s3, hc4, h⟩ := bnd_e h
  refine r_callVv (As := [vr p0]) (rest := []) B rfl rfl EX.same (c_X6_is B.ge h0 hc4) (cw_X6_is rfl rfl) (fun _ => (isRd_e hg1).elim (fun e => RV.of 6 e rfl rfl q2253) (fun e => RV.of 17 e rfl rfl q2254)) q883 q765 rfl dX6_isValue_2 ?_
  refine r_if_ne (tgt := 10) B dX6_isValue_5 (by decide) (fun cn5 => ?_) (fun cn5 => ?_)
  · have h := of cn5 h
    refine r_aload_n (j := 0) B dX6_isValue_10 rfl rfl ?_
    obtain ⟨hg6, h⟩ := gd_e h
    rcases bnx_e h with ⟨b10, s8, hc9, h⟩ | ⟨r7, s8, hc9, h⟩
    · cases h
      refine r_xVx (As := []) (rest := []) B rfl rfl EX.same (c_X6_leaf B.ge h0 hc9) (cw_X6_leaf rfl rfl) (fun _ => (isRd_e hg6).elim (fun e => RV.of 6 e rfl rfl q907) (fun e => RV.of 17 e rfl rfl q908)) q904 q905 rfl dX6_isValue_11 (fun hk => ?_)
      exact r_out B ht hk rfl (by decide) rfl
    refine r_xV0 (As := []) (rest := []) B rfl rfl EX.same (c_X6_leaf B.ge h0 hc9) (cw_X6_leaf rfl rfl) (fun _ => (isRd_e hg6).elim (fun e => RV.of 6 e rfl rfl q907) (fun e => RV.of 17 e rfl rfl q908)) q904 q905 rfl dX6_isValue_11 ?_
    refine r_aload_n (j := 0) B dX6_isValue_14 rfl rfl ?_
    obtain ⟨hg11, h⟩ := gd_e h
    obtain ⟨r12, s13, hc14, h⟩ := bnd_e h
    refine r_callV0 (As := []) (rest := []) B rfl rfl EX.same (c_X6_next B.ge h0 hc14) (cw_X6_next rfl rfl) (fun _ => (isRd_e hg11).elim (fun e => RV.of 6 e rfl rfl q745) (fun e => RV.of 17 e rfl rfl q746)) q742 q743 rfl dX6_isValue_15 ?_
    refine r_iconst (v := 1) B dX6_isValue_18 (by decide) ?_
    cases h
    exact r_ret (r_zret B dX6_isValue_19 (by decide) rfl)
  · have h := ot cn5 h
    refine r_iconst (v := 0) B dX6_isValue_8 (by decide) ?_
    cases h
    exact r_ret (r_zret B dX6_isValue_9 (by decide) rfl)
set_option maxHeartbeats 4000000 in
theorem cw_X6_isValue {X : CX} {fr lo : Nat} (h1 : Nat.ble (6 + 1) fr = true) (h2 : Nat.ble (21 + 128) lo = true) : CW X fr lo yX6_isValue cX6_isValue 2 (some .boolean) 6 128 1 := ⟨q941, q139, ⟨by decide +kernel, by decide +kernel, by decide +kernel⟩, Nat.le_of_ble_eq_true h1, Nat.le_of_ble_eq_true h2⟩

set_option maxHeartbeats 4000000 in
noncomputable def F_X20_value (s : St) (this : Nat)  : Option ((Int32 ⊕ Nat) × St) := gd (isK s this 17) <| bnx (F_X6_isValue s this (some 1000000000)) (fun b5 s3 => some (.inr b5, s3)) <| fun r2 s3 => if r2 = 0 then (gd (isK s3 this 17) <| bnx (F_X6_isValue s3 this (some 1000000001)) (fun b11 s9 => some (.inr b11, s9)) <| fun r8 s9 => if r8 = 0 then (gd (isK s9 this 17) <| bnx (F_X6_isValue s9 this (some 1000000002)) (fun b17 s15 => some (.inr b17, s15)) <| fun r14 s15 => if r14 = 0 then (gd (isK s15 this 17) <| bnx (F_X6_isValue s15 this (some 1000000003)) (fun b23 s21 => some (.inr b23, s21)) <| fun r20 s21 => if r20 = 0 then (gd (isK s21 this 17) <| bnx (F_X6_isValue s21 this (some 1000000004)) (fun b29 s27 => some (.inr b29, s27)) <| fun r26 s27 => if r26 = 0 then (some (.inl (-1 : Int32), s27)) else (gd (isK s27 this 17) <| bnx (F_X6_number s27 this (0 : Int32) (5 : Int32)) (fun b35 s33 => some (.inr b35, s33)) <| fun r32 s33 => some (.inl ((9 : Int32) + r32), s33))) else (gd (isK s21 this 17) <| bnx (F_X6_number s21 this (0 : Int32) (5 : Int32)) (fun b40 s38 => some (.inr b40, s38)) <| fun r37 s38 => some (.inl ((3 : Int32) + r37), s38))) else (some (.inl (2 : Int32), s15))) else (some (.inl (1 : Int32), s9))) else (some (.inl (0 : Int32), s3))
set_option maxHeartbeats 4000000 in
theorem c_X20_value {l : Launch} {E : EV} (hE : GE E) (h0 : ∀ σ, eSk E σ) {s s' : St} {r : (Int32 ⊕ Nat)} {this : Nat}  (h : F_X20_value  s this = some (r, s')) : CTX l E yX20_value cX20_value 1 (some .int) 7 149 [vr (some this)] s (oX (fun v => some (vi v)) 7 r) s' := by
  refine CTX.start hE (by decide) rfl [(0, vr (some this))] rfl (fun X hX B ht => ?_)
  skip
  have B : FX X E cX20_value 1 (some .int) "RoseThrow$OrderReader" "value" (sn s) (ss s) 7 149 := B
  unfold F_X20_value at h
  refine r_aload_n (j := 0) B dX20_value_0 rfl rfl ?_
  refine r_ldcS 0 (o := some 1000000000) B rfl rfl dX20_value_1 ?_
  obtain ⟨hg1, h⟩ := gd_e h
  rcases bnx_e h with ⟨b5, s3, hc4, h⟩ | ⟨r2, s3, hc4, h⟩
  · cases h
    refine r_xDx (x := ⟨"RoseThrow$OrderReader", "isValue", "(Ljava/lang/String;)Z"⟩) (owner := "RoseThrow$Reader") (As := [vr (some 1000000000)]) (rest := []) B rfl rfl EX.same ⟨yX6_isValue, cX6_isValue, 2, _, _, _, (RV.of 17 (isK_e hg1) rfl rfl q961), q940, (c_X6_isValue B.ge h0 hc4), ⟨q941, q139, ⟨by decide +kernel, by decide +kernel, show Option.map (fun d => d.parameters.length) (parseMethodDescriptor yX6_isValue.desc) = some 1 from by decide +kernel⟩⟩, Nat.le_refl _, Nat.le_refl _, rfl⟩ (by decide) (by decide) q959 q960 (lw_n q938 rfl) (by decide) rfl dX20_value_3 (fun hk => ?_)
    exact r_out B ht hk rfl (by decide) rfl
  refine r_xDn (x := ⟨"RoseThrow$OrderReader", "isValue", "(Ljava/lang/String;)Z"⟩) (owner := "RoseThrow$Reader") (As := [vr (some 1000000000)]) (rest := []) B rfl rfl EX.same ⟨yX6_isValue, cX6_isValue, 2, _, _, _, (RV.of 17 (isK_e hg1) rfl rfl q961), q940, (c_X6_isValue B.ge h0 hc4), ⟨q941, q139, ⟨by decide +kernel, by decide +kernel, show Option.map (fun d => d.parameters.length) (parseMethodDescriptor yX6_isValue.desc) = some 1 from by decide +kernel⟩⟩, Nat.le_refl _, Nat.le_refl _, rfl⟩ (by decide) (by decide) q959 q960 (lw_n q938 rfl) (by decide) rfl dX20_value_3 ?_
  refine r_if_eq (tgt := 11) B dX20_value_6 (by decide) (fun cn6 => ?_) (fun cn6 => ?_)
  · have h := ot cn6 h
    refine r_aload_n (j := 0) B dX20_value_11 rfl rfl ?_
    refine r_ldcS 1 (o := some 1000000001) B rfl rfl dX20_value_12 ?_
    obtain ⟨hg7, h⟩ := gd_e h
    rcases bnx_e h with ⟨b11, s9, hc10, h⟩ | ⟨r8, s9, hc10, h⟩
    · cases h
      refine r_xDx (x := ⟨"RoseThrow$OrderReader", "isValue", "(Ljava/lang/String;)Z"⟩) (owner := "RoseThrow$Reader") (As := [vr (some 1000000001)]) (rest := []) B rfl rfl EX.same ⟨yX6_isValue, cX6_isValue, 2, _, _, _, (RV.of 17 (isK_e hg7) rfl rfl q961), q940, (c_X6_isValue B.ge h0 hc10), ⟨q941, q139, ⟨by decide +kernel, by decide +kernel, show Option.map (fun d => d.parameters.length) (parseMethodDescriptor yX6_isValue.desc) = some 1 from by decide +kernel⟩⟩, Nat.le_refl _, Nat.le_refl _, rfl⟩ (by decide) (by decide) q959 q960 (lw_n q938 rfl) (by decide) rfl dX20_value_14 (fun hk => ?_)
      exact r_out B ht hk rfl (by decide) rfl
    refine r_xDn (x := ⟨"RoseThrow$OrderReader", "isValue", "(Ljava/lang/String;)Z"⟩) (owner := "RoseThrow$Reader") (As := [vr (some 1000000001)]) (rest := []) B rfl rfl EX.same ⟨yX6_isValue, cX6_isValue, 2, _, _, _, (RV.of 17 (isK_e hg7) rfl rfl q961), q940, (c_X6_isValue B.ge h0 hc10), ⟨q941, q139, ⟨by decide +kernel, by decide +kernel, show Option.map (fun d => d.parameters.length) (parseMethodDescriptor yX6_isValue.desc) = some 1 from by decide +kernel⟩⟩, Nat.le_refl _, Nat.le_refl _, rfl⟩ (by decide) (by decide) q959 q960 (lw_n q938 rfl) (by decide) rfl dX20_value_14 ?_
    refine r_if_eq (tgt := 22) B dX20_value_17 (by decide) (fun cn12 => ?_) (fun cn12 => ?_)
    · have h := ot cn12 h
      refine r_aload_n (j := 0) B dX20_value_22 rfl rfl ?_
      refine r_ldcS 2 (o := some 1000000002) B rfl rfl dX20_value_23 ?_
      obtain ⟨hg13, h⟩ := gd_e h
      rcases bnx_e h with ⟨b17, s15, hc16, h⟩ | ⟨r14, s15, hc16, h⟩
      · cases h
        refine r_xDx (x := ⟨"RoseThrow$OrderReader", "isValue", "(Ljava/lang/String;)Z"⟩) (owner := "RoseThrow$Reader") (As := [vr (some 1000000002)]) (rest := []) B rfl rfl EX.same ⟨yX6_isValue, cX6_isValue, 2, _, _, _, (RV.of 17 (isK_e hg13) rfl rfl q961), q940, (c_X6_isValue B.ge h0 hc16), ⟨q941, q139, ⟨by decide +kernel, by decide +kernel, show Option.map (fun d => d.parameters.length) (parseMethodDescriptor yX6_isValue.desc) = some 1 from by decide +kernel⟩⟩, Nat.le_refl _, Nat.le_refl _, rfl⟩ (by decide) (by decide) q959 q960 (lw_n q938 rfl) (by decide) rfl dX20_value_25 (fun hk => ?_)
        exact r_out B ht hk rfl (by decide) rfl
      refine r_xDn (x := ⟨"RoseThrow$OrderReader", "isValue", "(Ljava/lang/String;)Z"⟩) (owner := "RoseThrow$Reader") (As := [vr (some 1000000002)]) (rest := []) B rfl rfl EX.same ⟨yX6_isValue, cX6_isValue, 2, _, _, _, (RV.of 17 (isK_e hg13) rfl rfl q961), q940, (c_X6_isValue B.ge h0 hc16), ⟨q941, q139, ⟨by decide +kernel, by decide +kernel, show Option.map (fun d => d.parameters.length) (parseMethodDescriptor yX6_isValue.desc) = some 1 from by decide +kernel⟩⟩, Nat.le_refl _, Nat.le_refl _, rfl⟩ (by decide) (by decide) q959 q960 (lw_n q938 rfl) (by decide) rfl dX20_value_25 ?_
      refine r_if_eq (tgt := 33) B dX20_value_28 (by decide) (fun cn18 => ?_) (fun cn18 => ?_)
      · have h := ot cn18 h
        refine r_aload_n (j := 0) B dX20_value_33 rfl rfl ?_
        refine r_ldcS 3 (o := some 1000000003) B rfl rfl dX20_value_34 ?_
        obtain ⟨hg19, h⟩ := gd_e h
        rcases bnx_e h with ⟨b23, s21, hc22, h⟩ | ⟨r20, s21, hc22, h⟩
        · cases h
          refine r_xDx (x := ⟨"RoseThrow$OrderReader", "isValue", "(Ljava/lang/String;)Z"⟩) (owner := "RoseThrow$Reader") (As := [vr (some 1000000003)]) (rest := []) B rfl rfl EX.same ⟨yX6_isValue, cX6_isValue, 2, _, _, _, (RV.of 17 (isK_e hg19) rfl rfl q961), q940, (c_X6_isValue B.ge h0 hc22), ⟨q941, q139, ⟨by decide +kernel, by decide +kernel, show Option.map (fun d => d.parameters.length) (parseMethodDescriptor yX6_isValue.desc) = some 1 from by decide +kernel⟩⟩, Nat.le_refl _, Nat.le_refl _, rfl⟩ (by decide) (by decide) q959 q960 (lw_n q938 rfl) (by decide) rfl dX20_value_36 (fun hk => ?_)
          exact r_out B ht hk rfl (by decide) rfl
        refine r_xDn (x := ⟨"RoseThrow$OrderReader", "isValue", "(Ljava/lang/String;)Z"⟩) (owner := "RoseThrow$Reader") (As := [vr (some 1000000003)]) (rest := []) B rfl rfl EX.same ⟨yX6_isValue, cX6_isValue, 2, _, _, _, (RV.of 17 (isK_e hg19) rfl rfl q961), q940, (c_X6_isValue B.ge h0 hc22), ⟨q941, q139, ⟨by decide +kernel, by decide +kernel, show Option.map (fun d => d.parameters.length) (parseMethodDescriptor yX6_isValue.desc) = some 1 from by decide +kernel⟩⟩, Nat.le_refl _, Nat.le_refl _, rfl⟩ (by decide) (by decide) q959 q960 (lw_n q938 rfl) (by decide) rfl dX20_value_36 ?_
        refine r_if_eq (tgt := 51) B dX20_value_39 (by decide) (fun cn24 => ?_) (fun cn24 => ?_)
        · have h := ot cn24 h
          refine r_aload_n (j := 0) B dX20_value_51 rfl rfl ?_
          refine r_ldcS 4 (o := some 1000000004) B rfl rfl dX20_value_52 ?_
          obtain ⟨hg25, h⟩ := gd_e h
          rcases bnx_e h with ⟨b29, s27, hc28, h⟩ | ⟨r26, s27, hc28, h⟩
          · cases h
            refine r_xDx (x := ⟨"RoseThrow$OrderReader", "isValue", "(Ljava/lang/String;)Z"⟩) (owner := "RoseThrow$Reader") (As := [vr (some 1000000004)]) (rest := []) B rfl rfl EX.same ⟨yX6_isValue, cX6_isValue, 2, _, _, _, (RV.of 17 (isK_e hg25) rfl rfl q961), q940, (c_X6_isValue B.ge h0 hc28), ⟨q941, q139, ⟨by decide +kernel, by decide +kernel, show Option.map (fun d => d.parameters.length) (parseMethodDescriptor yX6_isValue.desc) = some 1 from by decide +kernel⟩⟩, Nat.le_refl _, Nat.le_refl _, rfl⟩ (by decide) (by decide) q959 q960 (lw_n q938 rfl) (by decide) rfl dX20_value_54 (fun hk => ?_)
            exact r_out B ht hk rfl (by decide) rfl
          refine r_xDn (x := ⟨"RoseThrow$OrderReader", "isValue", "(Ljava/lang/String;)Z"⟩) (owner := "RoseThrow$Reader") (As := [vr (some 1000000004)]) (rest := []) B rfl rfl EX.same ⟨yX6_isValue, cX6_isValue, 2, _, _, _, (RV.of 17 (isK_e hg25) rfl rfl q961), q940, (c_X6_isValue B.ge h0 hc28), ⟨q941, q139, ⟨by decide +kernel, by decide +kernel, show Option.map (fun d => d.parameters.length) (parseMethodDescriptor yX6_isValue.desc) = some 1 from by decide +kernel⟩⟩, Nat.le_refl _, Nat.le_refl _, rfl⟩ (by decide) (by decide) q959 q960 (lw_n q938 rfl) (by decide) rfl dX20_value_54 ?_
          refine r_if_eq (tgt := 72) B dX20_value_57 (by decide) (fun cn30 => ?_) (fun cn30 => ?_)
          · have h := ot cn30 h
            refine r_iconst (v := -1) B dX20_value_72 (by decide) ?_
            cases h
            exact r_ret (r_iret B dX20_value_73 rfl)
          · have h := of cn30 h
            refine r_bipush (v := 9) B dX20_value_60 (by decide) ?_
            refine r_aload_n (j := 0) B dX20_value_62 rfl rfl ?_
            refine r_iconst (v := 0) B dX20_value_63 (by decide) ?_
            refine r_iconst (v := 5) B dX20_value_64 (by decide) ?_
            obtain ⟨hg31, h⟩ := gd_e h
            rcases bnx_e h with ⟨b35, s33, hc34, h⟩ | ⟨r32, s33, hc34, h⟩
            · cases h
              refine r_xDx (x := ⟨"RoseThrow$OrderReader", "number", "(II)I"⟩) (owner := "RoseThrow$Reader") (As := [vi (0 : Int32), vi (5 : Int32)]) (rest := [vi (9 : Int32)]) B rfl rfl EX.same ⟨yX6_number, cX6_number, 5, _, _, _, (RV.of 17 (isK_e hg31) rfl rfl q968), q913, (c_X6_number B.ge h0 hc34), ⟨q917, q139, ⟨by decide +kernel, by decide +kernel, show Option.map (fun d => d.parameters.length) (parseMethodDescriptor yX6_number.desc) = some 2 from by decide +kernel⟩⟩, Nat.le_refl _, Nat.le_refl _, rfl⟩ (by decide) (by decide) q965 q966 (lw_n q967 rfl) (by decide) rfl dX20_value_65 (fun hk => ?_)
              exact r_out B ht hk rfl (by decide) rfl
            refine r_xDn (x := ⟨"RoseThrow$OrderReader", "number", "(II)I"⟩) (owner := "RoseThrow$Reader") (As := [vi (0 : Int32), vi (5 : Int32)]) (rest := [vi (9 : Int32)]) B rfl rfl EX.same ⟨yX6_number, cX6_number, 5, _, _, _, (RV.of 17 (isK_e hg31) rfl rfl q968), q913, (c_X6_number B.ge h0 hc34), ⟨q917, q139, ⟨by decide +kernel, by decide +kernel, show Option.map (fun d => d.parameters.length) (parseMethodDescriptor yX6_number.desc) = some 2 from by decide +kernel⟩⟩, Nat.le_refl _, Nat.le_refl _, rfl⟩ (by decide) (by decide) q965 q966 (lw_n q967 rfl) (by decide) rfl dX20_value_65 ?_
            refine r_iadd B dX20_value_68 ?_
            refine r_goto (tgt := 73) B dX20_value_69 (by decide) ?_
            cases h
            exact r_ret (r_iret B dX20_value_73 rfl)
        · have h := of cn24 h
          refine r_iconst (v := 3) B dX20_value_42 (by decide) ?_
          refine r_aload_n (j := 0) B dX20_value_43 rfl rfl ?_
          refine r_iconst (v := 0) B dX20_value_44 (by decide) ?_
          refine r_iconst (v := 5) B dX20_value_45 (by decide) ?_
          obtain ⟨hg36, h⟩ := gd_e h
          rcases bnx_e h with ⟨b40, s38, hc39, h⟩ | ⟨r37, s38, hc39, h⟩
          · cases h
            refine r_xDx (x := ⟨"RoseThrow$OrderReader", "number", "(II)I"⟩) (owner := "RoseThrow$Reader") (As := [vi (0 : Int32), vi (5 : Int32)]) (rest := [vi (3 : Int32)]) B rfl rfl EX.same ⟨yX6_number, cX6_number, 5, _, _, _, (RV.of 17 (isK_e hg36) rfl rfl q968), q913, (c_X6_number B.ge h0 hc39), ⟨q917, q139, ⟨by decide +kernel, by decide +kernel, show Option.map (fun d => d.parameters.length) (parseMethodDescriptor yX6_number.desc) = some 2 from by decide +kernel⟩⟩, Nat.le_refl _, Nat.le_refl _, rfl⟩ (by decide) (by decide) q965 q966 (lw_n q967 rfl) (by decide) rfl dX20_value_46 (fun hk => ?_)
            exact r_out B ht hk rfl (by decide) rfl
          refine r_xDn (x := ⟨"RoseThrow$OrderReader", "number", "(II)I"⟩) (owner := "RoseThrow$Reader") (As := [vi (0 : Int32), vi (5 : Int32)]) (rest := [vi (3 : Int32)]) B rfl rfl EX.same ⟨yX6_number, cX6_number, 5, _, _, _, (RV.of 17 (isK_e hg36) rfl rfl q968), q913, (c_X6_number B.ge h0 hc39), ⟨q917, q139, ⟨by decide +kernel, by decide +kernel, show Option.map (fun d => d.parameters.length) (parseMethodDescriptor yX6_number.desc) = some 2 from by decide +kernel⟩⟩, Nat.le_refl _, Nat.le_refl _, rfl⟩ (by decide) (by decide) q965 q966 (lw_n q967 rfl) (by decide) rfl dX20_value_46 ?_
          refine r_iadd B dX20_value_49 ?_
          cases h
          exact r_ret (r_iret B dX20_value_50 rfl)
      · have h := of cn18 h
        refine r_iconst (v := 2) B dX20_value_31 (by decide) ?_
        cases h
        exact r_ret (r_iret B dX20_value_32 rfl)
    · have h := of cn12 h
      refine r_iconst (v := 1) B dX20_value_20 (by decide) ?_
      cases h
      exact r_ret (r_iret B dX20_value_21 rfl)
  · have h := of cn6 h
    refine r_iconst (v := 0) B dX20_value_9 (by decide) ?_
    cases h
    exact r_ret (r_iret B dX20_value_10 rfl)
set_option maxHeartbeats 4000000 in
theorem cw_X20_value {X : CX} {fr lo : Nat} (h1 : Nat.ble (7 + 1) fr = true) (h2 : Nat.ble (20 + 149) lo = true) : CW X fr lo yX20_value cX20_value 1 (some .int) 7 149 0 := ⟨q957, q160, ⟨by decide +kernel, by decide +kernel, by decide +kernel⟩, Nat.le_of_ble_eq_true h1, Nat.le_of_ble_eq_true h2⟩

set_option maxHeartbeats 4000000 in
noncomputable def F_X7_value (s : St) (this : Nat)  : Option ((Int32 ⊕ Nat) × St) := gd (isK s this 6) <| bnx (F_X6_isValue s this (some 1000000031)) (fun b5 s3 => some (.inr b5, s3)) <| fun r2 s3 => if r2 = 0 then (gd (isK s3 this 6) <| bnx (F_X6_isValue s3 this (some 1000000032)) (fun b11 s9 => some (.inr b11, s9)) <| fun r8 s9 => if r8 = 0 then (gd (isK s9 this 6) <| bnx (F_X6_isValue s9 this (some 1000000033)) (fun b17 s15 => some (.inr b17, s15)) <| fun r14 s15 => if r14 = 0 then (gd (isK s15 this 6) <| bnx (F_X6_isValue s15 this (some 1000000034)) (fun b23 s21 => some (.inr b23, s21)) <| fun r20 s21 => if r20 = 0 then (gd (isK s21 this 6) <| bnx (F_X6_isValue s21 this (some 1000000035)) (fun b29 s27 => some (.inr b29, s27)) <| fun r26 s27 => if r26 = 0 then (gd (isK s27 this 6) <| bnx (F_X6_isValue s27 this (some 1000000036)) (fun b35 s33 => some (.inr b35, s33)) <| fun r32 s33 => if r32 = 0 then (gd (isK s33 this 6) <| bnx (F_X6_isValue s33 this (some 1000000037)) (fun b41 s39 => some (.inr b41, s39)) <| fun r38 s39 => if r38 = 0 then (gd (isK s39 this 6) <| bnx (F_X6_isValue s39 this (some 1000000038)) (fun b47 s45 => some (.inr b47, s45)) <| fun r44 s45 => if r44 = 0 then (gd (isK s45 this 6) <| bnx (F_X6_isValue s45 this (some 1000000039)) (fun b53 s51 => some (.inr b53, s51)) <| fun r50 s51 => if r50 = 0 then (gd (isK s51 this 6) <| bnx (F_X6_isValue s51 this (some 1000000040)) (fun b59 s57 => some (.inr b59, s57)) <| fun r56 s57 => if r56 = 0 then (gd (isK s57 this 6) <| bnx (F_X6_isValue s57 this (some 1000000041)) (fun b65 s63 => some (.inr b65, s63)) <| fun r62 s63 => if r62 = 0 then (gd (isK s63 this 6) <| bnx (F_X6_isValue s63 this (some 1000000042)) (fun b71 s69 => some (.inr b71, s69)) <| fun r68 s69 => if r68 = 0 then (gd (isK s69 this 6) <| bnx (F_X6_isValue s69 this (some 1000000043)) (fun b77 s75 => some (.inr b77, s75)) <| fun r74 s75 => if r74 = 0 then (gd (isK s75 this 6) <| bnx (F_X6_isValue s75 this (some 1000000044)) (fun b83 s81 => some (.inr b83, s81)) <| fun r80 s81 => if r80 = 0 then (some (.inl (-1 : Int32), s81)) else (some (.inl (13 : Int32), s81))) else (some (.inl (12 : Int32), s75))) else (some (.inl (11 : Int32), s69))) else (some (.inl (10 : Int32), s63))) else (some (.inl (9 : Int32), s57))) else (some (.inl (8 : Int32), s51))) else (some (.inl (7 : Int32), s45))) else (some (.inl (6 : Int32), s39))) else (some (.inl (5 : Int32), s33))) else (some (.inl (4 : Int32), s27))) else (some (.inl (3 : Int32), s21))) else (some (.inl (2 : Int32), s15))) else (some (.inl (1 : Int32), s9))) else (some (.inl (0 : Int32), s3))
set_option maxHeartbeats 4000000 in
theorem c_X7_value {l : Launch} {E : EV} (hE : GE E) (h0 : ∀ σ, eSk E σ) {s s' : St} {r : (Int32 ⊕ Nat)} {this : Nat}  (h : F_X7_value  s this = some (r, s')) : CTX l E yX7_value cX7_value 1 (some .int) 7 149 [vr (some this)] s (oX (fun v => some (vi v)) 7 r) s' := by
  refine CTX.start hE (by decide) rfl [(0, vr (some this))] rfl (fun X hX B ht => ?_)
  skip
  have B : FX X E cX7_value 1 (some .int) "RoseThrow$LawReader" "value" (sn s) (ss s) 7 149 := B
  unfold F_X7_value at h
  refine r_aload_n (j := 0) B dX7_value_0 rfl rfl ?_
  refine r_ldcS 31 (o := some 1000000031) B rfl rfl dX7_value_1 ?_
  obtain ⟨hg1, h⟩ := gd_e h
  rcases bnx_e h with ⟨b5, s3, hc4, h⟩ | ⟨r2, s3, hc4, h⟩
  · cases h
    refine r_xDx (x := ⟨"RoseThrow$LawReader", "isValue", "(Ljava/lang/String;)Z"⟩) (owner := "RoseThrow$Reader") (As := [vr (some 1000000031)]) (rest := []) B rfl rfl EX.same ⟨yX6_isValue, cX6_isValue, 2, _, _, _, (RV.of 6 (isK_e hg1) rfl rfl q939), q940, (c_X6_isValue B.ge h0 hc4), ⟨q941, q139, ⟨by decide +kernel, by decide +kernel, show Option.map (fun d => d.parameters.length) (parseMethodDescriptor yX6_isValue.desc) = some 1 from by decide +kernel⟩⟩, Nat.le_refl _, Nat.le_refl _, rfl⟩ (by decide) (by decide) q936 q937 (lw_n q938 rfl) (by decide) rfl dX7_value_3 (fun hk => ?_)
    exact r_out B ht hk rfl (by decide) rfl
  refine r_xDn (x := ⟨"RoseThrow$LawReader", "isValue", "(Ljava/lang/String;)Z"⟩) (owner := "RoseThrow$Reader") (As := [vr (some 1000000031)]) (rest := []) B rfl rfl EX.same ⟨yX6_isValue, cX6_isValue, 2, _, _, _, (RV.of 6 (isK_e hg1) rfl rfl q939), q940, (c_X6_isValue B.ge h0 hc4), ⟨q941, q139, ⟨by decide +kernel, by decide +kernel, show Option.map (fun d => d.parameters.length) (parseMethodDescriptor yX6_isValue.desc) = some 1 from by decide +kernel⟩⟩, Nat.le_refl _, Nat.le_refl _, rfl⟩ (by decide) (by decide) q936 q937 (lw_n q938 rfl) (by decide) rfl dX7_value_3 ?_
  refine r_if_eq (tgt := 11) B dX7_value_6 (by decide) (fun cn6 => ?_) (fun cn6 => ?_)
  · have h := ot cn6 h
    refine r_aload_n (j := 0) B dX7_value_11 rfl rfl ?_
    refine r_ldcS 32 (o := some 1000000032) B rfl rfl dX7_value_12 ?_
    obtain ⟨hg7, h⟩ := gd_e h
    rcases bnx_e h with ⟨b11, s9, hc10, h⟩ | ⟨r8, s9, hc10, h⟩
    · cases h
      refine r_xDx (x := ⟨"RoseThrow$LawReader", "isValue", "(Ljava/lang/String;)Z"⟩) (owner := "RoseThrow$Reader") (As := [vr (some 1000000032)]) (rest := []) B rfl rfl EX.same ⟨yX6_isValue, cX6_isValue, 2, _, _, _, (RV.of 6 (isK_e hg7) rfl rfl q939), q940, (c_X6_isValue B.ge h0 hc10), ⟨q941, q139, ⟨by decide +kernel, by decide +kernel, show Option.map (fun d => d.parameters.length) (parseMethodDescriptor yX6_isValue.desc) = some 1 from by decide +kernel⟩⟩, Nat.le_refl _, Nat.le_refl _, rfl⟩ (by decide) (by decide) q936 q937 (lw_n q938 rfl) (by decide) rfl dX7_value_14 (fun hk => ?_)
      exact r_out B ht hk rfl (by decide) rfl
    refine r_xDn (x := ⟨"RoseThrow$LawReader", "isValue", "(Ljava/lang/String;)Z"⟩) (owner := "RoseThrow$Reader") (As := [vr (some 1000000032)]) (rest := []) B rfl rfl EX.same ⟨yX6_isValue, cX6_isValue, 2, _, _, _, (RV.of 6 (isK_e hg7) rfl rfl q939), q940, (c_X6_isValue B.ge h0 hc10), ⟨q941, q139, ⟨by decide +kernel, by decide +kernel, show Option.map (fun d => d.parameters.length) (parseMethodDescriptor yX6_isValue.desc) = some 1 from by decide +kernel⟩⟩, Nat.le_refl _, Nat.le_refl _, rfl⟩ (by decide) (by decide) q936 q937 (lw_n q938 rfl) (by decide) rfl dX7_value_14 ?_
    refine r_if_eq (tgt := 22) B dX7_value_17 (by decide) (fun cn12 => ?_) (fun cn12 => ?_)
    · have h := ot cn12 h
      refine r_aload_n (j := 0) B dX7_value_22 rfl rfl ?_
      refine r_ldcS 33 (o := some 1000000033) B rfl rfl dX7_value_23 ?_
      obtain ⟨hg13, h⟩ := gd_e h
      rcases bnx_e h with ⟨b17, s15, hc16, h⟩ | ⟨r14, s15, hc16, h⟩
      · cases h
        refine r_xDx (x := ⟨"RoseThrow$LawReader", "isValue", "(Ljava/lang/String;)Z"⟩) (owner := "RoseThrow$Reader") (As := [vr (some 1000000033)]) (rest := []) B rfl rfl EX.same ⟨yX6_isValue, cX6_isValue, 2, _, _, _, (RV.of 6 (isK_e hg13) rfl rfl q939), q940, (c_X6_isValue B.ge h0 hc16), ⟨q941, q139, ⟨by decide +kernel, by decide +kernel, show Option.map (fun d => d.parameters.length) (parseMethodDescriptor yX6_isValue.desc) = some 1 from by decide +kernel⟩⟩, Nat.le_refl _, Nat.le_refl _, rfl⟩ (by decide) (by decide) q936 q937 (lw_n q938 rfl) (by decide) rfl dX7_value_25 (fun hk => ?_)
        exact r_out B ht hk rfl (by decide) rfl
      refine r_xDn (x := ⟨"RoseThrow$LawReader", "isValue", "(Ljava/lang/String;)Z"⟩) (owner := "RoseThrow$Reader") (As := [vr (some 1000000033)]) (rest := []) B rfl rfl EX.same ⟨yX6_isValue, cX6_isValue, 2, _, _, _, (RV.of 6 (isK_e hg13) rfl rfl q939), q940, (c_X6_isValue B.ge h0 hc16), ⟨q941, q139, ⟨by decide +kernel, by decide +kernel, show Option.map (fun d => d.parameters.length) (parseMethodDescriptor yX6_isValue.desc) = some 1 from by decide +kernel⟩⟩, Nat.le_refl _, Nat.le_refl _, rfl⟩ (by decide) (by decide) q936 q937 (lw_n q938 rfl) (by decide) rfl dX7_value_25 ?_
      refine r_if_eq (tgt := 33) B dX7_value_28 (by decide) (fun cn18 => ?_) (fun cn18 => ?_)
      · have h := ot cn18 h
        refine r_aload_n (j := 0) B dX7_value_33 rfl rfl ?_
        refine r_ldcS 34 (o := some 1000000034) B rfl rfl dX7_value_34 ?_
        obtain ⟨hg19, h⟩ := gd_e h
        rcases bnx_e h with ⟨b23, s21, hc22, h⟩ | ⟨r20, s21, hc22, h⟩
        · cases h
          refine r_xDx (x := ⟨"RoseThrow$LawReader", "isValue", "(Ljava/lang/String;)Z"⟩) (owner := "RoseThrow$Reader") (As := [vr (some 1000000034)]) (rest := []) B rfl rfl EX.same ⟨yX6_isValue, cX6_isValue, 2, _, _, _, (RV.of 6 (isK_e hg19) rfl rfl q939), q940, (c_X6_isValue B.ge h0 hc22), ⟨q941, q139, ⟨by decide +kernel, by decide +kernel, show Option.map (fun d => d.parameters.length) (parseMethodDescriptor yX6_isValue.desc) = some 1 from by decide +kernel⟩⟩, Nat.le_refl _, Nat.le_refl _, rfl⟩ (by decide) (by decide) q936 q937 (lw_n q938 rfl) (by decide) rfl dX7_value_36 (fun hk => ?_)
          exact r_out B ht hk rfl (by decide) rfl
        refine r_xDn (x := ⟨"RoseThrow$LawReader", "isValue", "(Ljava/lang/String;)Z"⟩) (owner := "RoseThrow$Reader") (As := [vr (some 1000000034)]) (rest := []) B rfl rfl EX.same ⟨yX6_isValue, cX6_isValue, 2, _, _, _, (RV.of 6 (isK_e hg19) rfl rfl q939), q940, (c_X6_isValue B.ge h0 hc22), ⟨q941, q139, ⟨by decide +kernel, by decide +kernel, show Option.map (fun d => d.parameters.length) (parseMethodDescriptor yX6_isValue.desc) = some 1 from by decide +kernel⟩⟩, Nat.le_refl _, Nat.le_refl _, rfl⟩ (by decide) (by decide) q936 q937 (lw_n q938 rfl) (by decide) rfl dX7_value_36 ?_
        refine r_if_eq (tgt := 44) B dX7_value_39 (by decide) (fun cn24 => ?_) (fun cn24 => ?_)
        · have h := ot cn24 h
          refine r_aload_n (j := 0) B dX7_value_44 rfl rfl ?_
          refine r_ldcS 35 (o := some 1000000035) B rfl rfl dX7_value_45 ?_
          obtain ⟨hg25, h⟩ := gd_e h
          rcases bnx_e h with ⟨b29, s27, hc28, h⟩ | ⟨r26, s27, hc28, h⟩
          · cases h
            refine r_xDx (x := ⟨"RoseThrow$LawReader", "isValue", "(Ljava/lang/String;)Z"⟩) (owner := "RoseThrow$Reader") (As := [vr (some 1000000035)]) (rest := []) B rfl rfl EX.same ⟨yX6_isValue, cX6_isValue, 2, _, _, _, (RV.of 6 (isK_e hg25) rfl rfl q939), q940, (c_X6_isValue B.ge h0 hc28), ⟨q941, q139, ⟨by decide +kernel, by decide +kernel, show Option.map (fun d => d.parameters.length) (parseMethodDescriptor yX6_isValue.desc) = some 1 from by decide +kernel⟩⟩, Nat.le_refl _, Nat.le_refl _, rfl⟩ (by decide) (by decide) q936 q937 (lw_n q938 rfl) (by decide) rfl dX7_value_47 (fun hk => ?_)
            exact r_out B ht hk rfl (by decide) rfl
          refine r_xDn (x := ⟨"RoseThrow$LawReader", "isValue", "(Ljava/lang/String;)Z"⟩) (owner := "RoseThrow$Reader") (As := [vr (some 1000000035)]) (rest := []) B rfl rfl EX.same ⟨yX6_isValue, cX6_isValue, 2, _, _, _, (RV.of 6 (isK_e hg25) rfl rfl q939), q940, (c_X6_isValue B.ge h0 hc28), ⟨q941, q139, ⟨by decide +kernel, by decide +kernel, show Option.map (fun d => d.parameters.length) (parseMethodDescriptor yX6_isValue.desc) = some 1 from by decide +kernel⟩⟩, Nat.le_refl _, Nat.le_refl _, rfl⟩ (by decide) (by decide) q936 q937 (lw_n q938 rfl) (by decide) rfl dX7_value_47 ?_
          refine r_if_eq (tgt := 55) B dX7_value_50 (by decide) (fun cn30 => ?_) (fun cn30 => ?_)
          · have h := ot cn30 h
            refine r_aload_n (j := 0) B dX7_value_55 rfl rfl ?_
            refine r_ldcS 36 (o := some 1000000036) B rfl rfl dX7_value_56 ?_
            obtain ⟨hg31, h⟩ := gd_e h
            rcases bnx_e h with ⟨b35, s33, hc34, h⟩ | ⟨r32, s33, hc34, h⟩
            · cases h
              refine r_xDx (x := ⟨"RoseThrow$LawReader", "isValue", "(Ljava/lang/String;)Z"⟩) (owner := "RoseThrow$Reader") (As := [vr (some 1000000036)]) (rest := []) B rfl rfl EX.same ⟨yX6_isValue, cX6_isValue, 2, _, _, _, (RV.of 6 (isK_e hg31) rfl rfl q939), q940, (c_X6_isValue B.ge h0 hc34), ⟨q941, q139, ⟨by decide +kernel, by decide +kernel, show Option.map (fun d => d.parameters.length) (parseMethodDescriptor yX6_isValue.desc) = some 1 from by decide +kernel⟩⟩, Nat.le_refl _, Nat.le_refl _, rfl⟩ (by decide) (by decide) q936 q937 (lw_n q938 rfl) (by decide) rfl dX7_value_58 (fun hk => ?_)
              exact r_out B ht hk rfl (by decide) rfl
            refine r_xDn (x := ⟨"RoseThrow$LawReader", "isValue", "(Ljava/lang/String;)Z"⟩) (owner := "RoseThrow$Reader") (As := [vr (some 1000000036)]) (rest := []) B rfl rfl EX.same ⟨yX6_isValue, cX6_isValue, 2, _, _, _, (RV.of 6 (isK_e hg31) rfl rfl q939), q940, (c_X6_isValue B.ge h0 hc34), ⟨q941, q139, ⟨by decide +kernel, by decide +kernel, show Option.map (fun d => d.parameters.length) (parseMethodDescriptor yX6_isValue.desc) = some 1 from by decide +kernel⟩⟩, Nat.le_refl _, Nat.le_refl _, rfl⟩ (by decide) (by decide) q936 q937 (lw_n q938 rfl) (by decide) rfl dX7_value_58 ?_
            refine r_if_eq (tgt := 66) B dX7_value_61 (by decide) (fun cn36 => ?_) (fun cn36 => ?_)
            · have h := ot cn36 h
              refine r_aload_n (j := 0) B dX7_value_66 rfl rfl ?_
              refine r_ldcS 37 (o := some 1000000037) B rfl rfl dX7_value_67 ?_
              obtain ⟨hg37, h⟩ := gd_e h
              rcases bnx_e h with ⟨b41, s39, hc40, h⟩ | ⟨r38, s39, hc40, h⟩
              · cases h
                refine r_xDx (x := ⟨"RoseThrow$LawReader", "isValue", "(Ljava/lang/String;)Z"⟩) (owner := "RoseThrow$Reader") (As := [vr (some 1000000037)]) (rest := []) B rfl rfl EX.same ⟨yX6_isValue, cX6_isValue, 2, _, _, _, (RV.of 6 (isK_e hg37) rfl rfl q939), q940, (c_X6_isValue B.ge h0 hc40), ⟨q941, q139, ⟨by decide +kernel, by decide +kernel, show Option.map (fun d => d.parameters.length) (parseMethodDescriptor yX6_isValue.desc) = some 1 from by decide +kernel⟩⟩, Nat.le_refl _, Nat.le_refl _, rfl⟩ (by decide) (by decide) q936 q937 (lw_n q938 rfl) (by decide) rfl dX7_value_69 (fun hk => ?_)
                exact r_out B ht hk rfl (by decide) rfl
              refine r_xDn (x := ⟨"RoseThrow$LawReader", "isValue", "(Ljava/lang/String;)Z"⟩) (owner := "RoseThrow$Reader") (As := [vr (some 1000000037)]) (rest := []) B rfl rfl EX.same ⟨yX6_isValue, cX6_isValue, 2, _, _, _, (RV.of 6 (isK_e hg37) rfl rfl q939), q940, (c_X6_isValue B.ge h0 hc40), ⟨q941, q139, ⟨by decide +kernel, by decide +kernel, show Option.map (fun d => d.parameters.length) (parseMethodDescriptor yX6_isValue.desc) = some 1 from by decide +kernel⟩⟩, Nat.le_refl _, Nat.le_refl _, rfl⟩ (by decide) (by decide) q936 q937 (lw_n q938 rfl) (by decide) rfl dX7_value_69 ?_
              refine r_if_eq (tgt := 78) B dX7_value_72 (by decide) (fun cn42 => ?_) (fun cn42 => ?_)
              · have h := ot cn42 h
                refine r_aload_n (j := 0) B dX7_value_78 rfl rfl ?_
                refine r_ldcS 38 (o := some 1000000038) B rfl rfl dX7_value_79 ?_
                obtain ⟨hg43, h⟩ := gd_e h
                rcases bnx_e h with ⟨b47, s45, hc46, h⟩ | ⟨r44, s45, hc46, h⟩
                · cases h
                  refine r_xDx (x := ⟨"RoseThrow$LawReader", "isValue", "(Ljava/lang/String;)Z"⟩) (owner := "RoseThrow$Reader") (As := [vr (some 1000000038)]) (rest := []) B rfl rfl EX.same ⟨yX6_isValue, cX6_isValue, 2, _, _, _, (RV.of 6 (isK_e hg43) rfl rfl q939), q940, (c_X6_isValue B.ge h0 hc46), ⟨q941, q139, ⟨by decide +kernel, by decide +kernel, show Option.map (fun d => d.parameters.length) (parseMethodDescriptor yX6_isValue.desc) = some 1 from by decide +kernel⟩⟩, Nat.le_refl _, Nat.le_refl _, rfl⟩ (by decide) (by decide) q936 q937 (lw_n q938 rfl) (by decide) rfl dX7_value_81 (fun hk => ?_)
                  exact r_out B ht hk rfl (by decide) rfl
                refine r_xDn (x := ⟨"RoseThrow$LawReader", "isValue", "(Ljava/lang/String;)Z"⟩) (owner := "RoseThrow$Reader") (As := [vr (some 1000000038)]) (rest := []) B rfl rfl EX.same ⟨yX6_isValue, cX6_isValue, 2, _, _, _, (RV.of 6 (isK_e hg43) rfl rfl q939), q940, (c_X6_isValue B.ge h0 hc46), ⟨q941, q139, ⟨by decide +kernel, by decide +kernel, show Option.map (fun d => d.parameters.length) (parseMethodDescriptor yX6_isValue.desc) = some 1 from by decide +kernel⟩⟩, Nat.le_refl _, Nat.le_refl _, rfl⟩ (by decide) (by decide) q936 q937 (lw_n q938 rfl) (by decide) rfl dX7_value_81 ?_
                refine r_if_eq (tgt := 90) B dX7_value_84 (by decide) (fun cn48 => ?_) (fun cn48 => ?_)
                · have h := ot cn48 h
                  refine r_aload_n (j := 0) B dX7_value_90 rfl rfl ?_
                  refine r_ldcS 39 (o := some 1000000039) B rfl rfl dX7_value_91 ?_
                  obtain ⟨hg49, h⟩ := gd_e h
                  rcases bnx_e h with ⟨b53, s51, hc52, h⟩ | ⟨r50, s51, hc52, h⟩
                  · cases h
                    refine r_xDx (x := ⟨"RoseThrow$LawReader", "isValue", "(Ljava/lang/String;)Z"⟩) (owner := "RoseThrow$Reader") (As := [vr (some 1000000039)]) (rest := []) B rfl rfl EX.same ⟨yX6_isValue, cX6_isValue, 2, _, _, _, (RV.of 6 (isK_e hg49) rfl rfl q939), q940, (c_X6_isValue B.ge h0 hc52), ⟨q941, q139, ⟨by decide +kernel, by decide +kernel, show Option.map (fun d => d.parameters.length) (parseMethodDescriptor yX6_isValue.desc) = some 1 from by decide +kernel⟩⟩, Nat.le_refl _, Nat.le_refl _, rfl⟩ (by decide) (by decide) q936 q937 (lw_n q938 rfl) (by decide) rfl dX7_value_93 (fun hk => ?_)
                    exact r_out B ht hk rfl (by decide) rfl
                  refine r_xDn (x := ⟨"RoseThrow$LawReader", "isValue", "(Ljava/lang/String;)Z"⟩) (owner := "RoseThrow$Reader") (As := [vr (some 1000000039)]) (rest := []) B rfl rfl EX.same ⟨yX6_isValue, cX6_isValue, 2, _, _, _, (RV.of 6 (isK_e hg49) rfl rfl q939), q940, (c_X6_isValue B.ge h0 hc52), ⟨q941, q139, ⟨by decide +kernel, by decide +kernel, show Option.map (fun d => d.parameters.length) (parseMethodDescriptor yX6_isValue.desc) = some 1 from by decide +kernel⟩⟩, Nat.le_refl _, Nat.le_refl _, rfl⟩ (by decide) (by decide) q936 q937 (lw_n q938 rfl) (by decide) rfl dX7_value_93 ?_
                  refine r_if_eq (tgt := 102) B dX7_value_96 (by decide) (fun cn54 => ?_) (fun cn54 => ?_)
                  · have h := ot cn54 h
                    refine r_aload_n (j := 0) B dX7_value_102 rfl rfl ?_
                    refine r_ldcS 40 (o := some 1000000040) B rfl rfl dX7_value_103 ?_
                    obtain ⟨hg55, h⟩ := gd_e h
                    rcases bnx_e h with ⟨b59, s57, hc58, h⟩ | ⟨r56, s57, hc58, h⟩
                    · cases h
                      refine r_xDx (x := ⟨"RoseThrow$LawReader", "isValue", "(Ljava/lang/String;)Z"⟩) (owner := "RoseThrow$Reader") (As := [vr (some 1000000040)]) (rest := []) B rfl rfl EX.same ⟨yX6_isValue, cX6_isValue, 2, _, _, _, (RV.of 6 (isK_e hg55) rfl rfl q939), q940, (c_X6_isValue B.ge h0 hc58), ⟨q941, q139, ⟨by decide +kernel, by decide +kernel, show Option.map (fun d => d.parameters.length) (parseMethodDescriptor yX6_isValue.desc) = some 1 from by decide +kernel⟩⟩, Nat.le_refl _, Nat.le_refl _, rfl⟩ (by decide) (by decide) q936 q937 (lw_n q938 rfl) (by decide) rfl dX7_value_105 (fun hk => ?_)
                      exact r_out B ht hk rfl (by decide) rfl
                    refine r_xDn (x := ⟨"RoseThrow$LawReader", "isValue", "(Ljava/lang/String;)Z"⟩) (owner := "RoseThrow$Reader") (As := [vr (some 1000000040)]) (rest := []) B rfl rfl EX.same ⟨yX6_isValue, cX6_isValue, 2, _, _, _, (RV.of 6 (isK_e hg55) rfl rfl q939), q940, (c_X6_isValue B.ge h0 hc58), ⟨q941, q139, ⟨by decide +kernel, by decide +kernel, show Option.map (fun d => d.parameters.length) (parseMethodDescriptor yX6_isValue.desc) = some 1 from by decide +kernel⟩⟩, Nat.le_refl _, Nat.le_refl _, rfl⟩ (by decide) (by decide) q936 q937 (lw_n q938 rfl) (by decide) rfl dX7_value_105 ?_
                    refine r_if_eq (tgt := 114) B dX7_value_108 (by decide) (fun cn60 => ?_) (fun cn60 => ?_)
                    · have h := ot cn60 h
                      refine r_aload_n (j := 0) B dX7_value_114 rfl rfl ?_
                      refine r_ldcS 41 (o := some 1000000041) B rfl rfl dX7_value_115 ?_
                      obtain ⟨hg61, h⟩ := gd_e h
                      rcases bnx_e h with ⟨b65, s63, hc64, h⟩ | ⟨r62, s63, hc64, h⟩
                      · cases h
                        refine r_xDx (x := ⟨"RoseThrow$LawReader", "isValue", "(Ljava/lang/String;)Z"⟩) (owner := "RoseThrow$Reader") (As := [vr (some 1000000041)]) (rest := []) B rfl rfl EX.same ⟨yX6_isValue, cX6_isValue, 2, _, _, _, (RV.of 6 (isK_e hg61) rfl rfl q939), q940, (c_X6_isValue B.ge h0 hc64), ⟨q941, q139, ⟨by decide +kernel, by decide +kernel, show Option.map (fun d => d.parameters.length) (parseMethodDescriptor yX6_isValue.desc) = some 1 from by decide +kernel⟩⟩, Nat.le_refl _, Nat.le_refl _, rfl⟩ (by decide) (by decide) q936 q937 (lw_n q938 rfl) (by decide) rfl dX7_value_117 (fun hk => ?_)
                        exact r_out B ht hk rfl (by decide) rfl
                      refine r_xDn (x := ⟨"RoseThrow$LawReader", "isValue", "(Ljava/lang/String;)Z"⟩) (owner := "RoseThrow$Reader") (As := [vr (some 1000000041)]) (rest := []) B rfl rfl EX.same ⟨yX6_isValue, cX6_isValue, 2, _, _, _, (RV.of 6 (isK_e hg61) rfl rfl q939), q940, (c_X6_isValue B.ge h0 hc64), ⟨q941, q139, ⟨by decide +kernel, by decide +kernel, show Option.map (fun d => d.parameters.length) (parseMethodDescriptor yX6_isValue.desc) = some 1 from by decide +kernel⟩⟩, Nat.le_refl _, Nat.le_refl _, rfl⟩ (by decide) (by decide) q936 q937 (lw_n q938 rfl) (by decide) rfl dX7_value_117 ?_
                      refine r_if_eq (tgt := 126) B dX7_value_120 (by decide) (fun cn66 => ?_) (fun cn66 => ?_)
                      · have h := ot cn66 h
                        refine r_aload_n (j := 0) B dX7_value_126 rfl rfl ?_
                        refine r_ldcS 42 (o := some 1000000042) B rfl rfl dX7_value_127 ?_
                        obtain ⟨hg67, h⟩ := gd_e h
                        rcases bnx_e h with ⟨b71, s69, hc70, h⟩ | ⟨r68, s69, hc70, h⟩
                        · cases h
                          refine r_xDx (x := ⟨"RoseThrow$LawReader", "isValue", "(Ljava/lang/String;)Z"⟩) (owner := "RoseThrow$Reader") (As := [vr (some 1000000042)]) (rest := []) B rfl rfl EX.same ⟨yX6_isValue, cX6_isValue, 2, _, _, _, (RV.of 6 (isK_e hg67) rfl rfl q939), q940, (c_X6_isValue B.ge h0 hc70), ⟨q941, q139, ⟨by decide +kernel, by decide +kernel, show Option.map (fun d => d.parameters.length) (parseMethodDescriptor yX6_isValue.desc) = some 1 from by decide +kernel⟩⟩, Nat.le_refl _, Nat.le_refl _, rfl⟩ (by decide) (by decide) q936 q937 (lw_n q938 rfl) (by decide) rfl dX7_value_129 (fun hk => ?_)
                          exact r_out B ht hk rfl (by decide) rfl
                        refine r_xDn (x := ⟨"RoseThrow$LawReader", "isValue", "(Ljava/lang/String;)Z"⟩) (owner := "RoseThrow$Reader") (As := [vr (some 1000000042)]) (rest := []) B rfl rfl EX.same ⟨yX6_isValue, cX6_isValue, 2, _, _, _, (RV.of 6 (isK_e hg67) rfl rfl q939), q940, (c_X6_isValue B.ge h0 hc70), ⟨q941, q139, ⟨by decide +kernel, by decide +kernel, show Option.map (fun d => d.parameters.length) (parseMethodDescriptor yX6_isValue.desc) = some 1 from by decide +kernel⟩⟩, Nat.le_refl _, Nat.le_refl _, rfl⟩ (by decide) (by decide) q936 q937 (lw_n q938 rfl) (by decide) rfl dX7_value_129 ?_
                        refine r_if_eq (tgt := 138) B dX7_value_132 (by decide) (fun cn72 => ?_) (fun cn72 => ?_)
                        · have h := ot cn72 h
                          refine r_aload_n (j := 0) B dX7_value_138 rfl rfl ?_
                          refine r_ldcS 43 (o := some 1000000043) B rfl rfl dX7_value_139 ?_
                          obtain ⟨hg73, h⟩ := gd_e h
                          rcases bnx_e h with ⟨b77, s75, hc76, h⟩ | ⟨r74, s75, hc76, h⟩
                          · cases h
                            refine r_xDx (x := ⟨"RoseThrow$LawReader", "isValue", "(Ljava/lang/String;)Z"⟩) (owner := "RoseThrow$Reader") (As := [vr (some 1000000043)]) (rest := []) B rfl rfl EX.same ⟨yX6_isValue, cX6_isValue, 2, _, _, _, (RV.of 6 (isK_e hg73) rfl rfl q939), q940, (c_X6_isValue B.ge h0 hc76), ⟨q941, q139, ⟨by decide +kernel, by decide +kernel, show Option.map (fun d => d.parameters.length) (parseMethodDescriptor yX6_isValue.desc) = some 1 from by decide +kernel⟩⟩, Nat.le_refl _, Nat.le_refl _, rfl⟩ (by decide) (by decide) q936 q937 (lw_n q938 rfl) (by decide) rfl dX7_value_141 (fun hk => ?_)
                            exact r_out B ht hk rfl (by decide) rfl
                          refine r_xDn (x := ⟨"RoseThrow$LawReader", "isValue", "(Ljava/lang/String;)Z"⟩) (owner := "RoseThrow$Reader") (As := [vr (some 1000000043)]) (rest := []) B rfl rfl EX.same ⟨yX6_isValue, cX6_isValue, 2, _, _, _, (RV.of 6 (isK_e hg73) rfl rfl q939), q940, (c_X6_isValue B.ge h0 hc76), ⟨q941, q139, ⟨by decide +kernel, by decide +kernel, show Option.map (fun d => d.parameters.length) (parseMethodDescriptor yX6_isValue.desc) = some 1 from by decide +kernel⟩⟩, Nat.le_refl _, Nat.le_refl _, rfl⟩ (by decide) (by decide) q936 q937 (lw_n q938 rfl) (by decide) rfl dX7_value_141 ?_
                          refine r_if_eq (tgt := 150) B dX7_value_144 (by decide) (fun cn78 => ?_) (fun cn78 => ?_)
                          · have h := ot cn78 h
                            refine r_aload_n (j := 0) B dX7_value_150 rfl rfl ?_
                            refine r_ldcS 44 (o := some 1000000044) B rfl rfl dX7_value_151 ?_
                            obtain ⟨hg79, h⟩ := gd_e h
                            rcases bnx_e h with ⟨b83, s81, hc82, h⟩ | ⟨r80, s81, hc82, h⟩
                            · cases h
                              refine r_xDx (x := ⟨"RoseThrow$LawReader", "isValue", "(Ljava/lang/String;)Z"⟩) (owner := "RoseThrow$Reader") (As := [vr (some 1000000044)]) (rest := []) B rfl rfl EX.same ⟨yX6_isValue, cX6_isValue, 2, _, _, _, (RV.of 6 (isK_e hg79) rfl rfl q939), q940, (c_X6_isValue B.ge h0 hc82), ⟨q941, q139, ⟨by decide +kernel, by decide +kernel, show Option.map (fun d => d.parameters.length) (parseMethodDescriptor yX6_isValue.desc) = some 1 from by decide +kernel⟩⟩, Nat.le_refl _, Nat.le_refl _, rfl⟩ (by decide) (by decide) q936 q937 (lw_n q938 rfl) (by decide) rfl dX7_value_153 (fun hk => ?_)
                              exact r_out B ht hk rfl (by decide) rfl
                            refine r_xDn (x := ⟨"RoseThrow$LawReader", "isValue", "(Ljava/lang/String;)Z"⟩) (owner := "RoseThrow$Reader") (As := [vr (some 1000000044)]) (rest := []) B rfl rfl EX.same ⟨yX6_isValue, cX6_isValue, 2, _, _, _, (RV.of 6 (isK_e hg79) rfl rfl q939), q940, (c_X6_isValue B.ge h0 hc82), ⟨q941, q139, ⟨by decide +kernel, by decide +kernel, show Option.map (fun d => d.parameters.length) (parseMethodDescriptor yX6_isValue.desc) = some 1 from by decide +kernel⟩⟩, Nat.le_refl _, Nat.le_refl _, rfl⟩ (by decide) (by decide) q936 q937 (lw_n q938 rfl) (by decide) rfl dX7_value_153 ?_
                            refine r_if_eq (tgt := 164) B dX7_value_156 (by decide) (fun cn84 => ?_) (fun cn84 => ?_)
                            · have h := ot cn84 h
                              refine r_iconst (v := -1) B dX7_value_164 (by decide) ?_
                              cases h
                              exact r_ret (r_iret B dX7_value_165 rfl)
                            · have h := of cn84 h
                              refine r_bipush (v := 13) B dX7_value_159 (by decide) ?_
                              refine r_goto (tgt := 165) B dX7_value_161 (by decide) ?_
                              cases h
                              exact r_ret (r_iret B dX7_value_165 rfl)
                          · have h := of cn78 h
                            refine r_bipush (v := 12) B dX7_value_147 (by decide) ?_
                            cases h
                            exact r_ret (r_iret B dX7_value_149 rfl)
                        · have h := of cn72 h
                          refine r_bipush (v := 11) B dX7_value_135 (by decide) ?_
                          cases h
                          exact r_ret (r_iret B dX7_value_137 rfl)
                      · have h := of cn66 h
                        refine r_bipush (v := 10) B dX7_value_123 (by decide) ?_
                        cases h
                        exact r_ret (r_iret B dX7_value_125 rfl)
                    · have h := of cn60 h
                      refine r_bipush (v := 9) B dX7_value_111 (by decide) ?_
                      cases h
                      exact r_ret (r_iret B dX7_value_113 rfl)
                  · have h := of cn54 h
                    refine r_bipush (v := 8) B dX7_value_99 (by decide) ?_
                    cases h
                    exact r_ret (r_iret B dX7_value_101 rfl)
                · have h := of cn48 h
                  refine r_bipush (v := 7) B dX7_value_87 (by decide) ?_
                  cases h
                  exact r_ret (r_iret B dX7_value_89 rfl)
              · have h := of cn42 h
                refine r_bipush (v := 6) B dX7_value_75 (by decide) ?_
                cases h
                exact r_ret (r_iret B dX7_value_77 rfl)
            · have h := of cn36 h
              refine r_iconst (v := 5) B dX7_value_64 (by decide) ?_
              cases h
              exact r_ret (r_iret B dX7_value_65 rfl)
          · have h := of cn30 h
            refine r_iconst (v := 4) B dX7_value_53 (by decide) ?_
            cases h
            exact r_ret (r_iret B dX7_value_54 rfl)
        · have h := of cn24 h
          refine r_iconst (v := 3) B dX7_value_42 (by decide) ?_
          cases h
          exact r_ret (r_iret B dX7_value_43 rfl)
      · have h := of cn18 h
        refine r_iconst (v := 2) B dX7_value_31 (by decide) ?_
        cases h
        exact r_ret (r_iret B dX7_value_32 rfl)
    · have h := of cn12 h
      refine r_iconst (v := 1) B dX7_value_20 (by decide) ?_
      cases h
      exact r_ret (r_iret B dX7_value_21 rfl)
  · have h := of cn6 h
    refine r_iconst (v := 0) B dX7_value_9 (by decide) ?_
    cases h
    exact r_ret (r_iret B dX7_value_10 rfl)
set_option maxHeartbeats 4000000 in
theorem cw_X7_value {X : CX} {fr lo : Nat} (h1 : Nat.ble (7 + 1) fr = true) (h2 : Nat.ble (20 + 149) lo = true) : CW X fr lo yX7_value cX7_value 1 (some .int) 7 149 0 := ⟨q934, q140, ⟨by decide +kernel, by decide +kernel, by decide +kernel⟩, Nat.le_of_ble_eq_true h1, Nat.le_of_ble_eq_true h2⟩

noncomputable def F_valueD (s : St) (a : Nat) : Option ((Int32 ⊕ Nat) × St) := if isK s a 17 = true then F_X20_value s a else if isK s a 6 = true then F_X7_value s a else none
theorem d_value {l : Launch} {E : EV} (hE : GE E) (h0 : ∀ σ, eSk E σ) (s : St) (a : Nat) (r : Int32 ⊕ Nat) (s' : St) (h : F_valueD s a = some (r, s')) : DSP l E (⟨"RoseThrow$Reader", "value", "()I"⟩ : MethodName) 60 3000 [] a s (oX (fun v => some (vi v)) 7 r) s' := by
  unfold F_valueD at h
  by_cases hk : isK s a 17 = true
  · have h := ot hk h
    exact ⟨yX20_value, cX20_value, 1, _, _, _, (RV.of 17 (isK_e hk) rfl rfl q955), q956, c_X20_value hE h0 h, ⟨q957, q160, ⟨by decide +kernel, by decide +kernel, show Option.map (fun d => d.parameters.length) (parseMethodDescriptor yX20_value.desc) = some 0 from by decide +kernel⟩⟩, by omega, by omega, rfl⟩
  have h := of hk h
  by_cases hk : isK s a 6 = true
  · have h := ot hk h
    exact ⟨yX7_value, cX7_value, 1, _, _, _, (RV.of 6 (isK_e hk) rfl rfl q932), q933, c_X7_value hE h0 h, ⟨q934, q140, ⟨by decide +kernel, by decide +kernel, show Option.map (fun d => d.parameters.length) (parseMethodDescriptor yX7_value.desc) = some 0 from by decide +kernel⟩⟩, by omega, by omega, rfl⟩
  have h := of hk h
  cases h

set_option maxHeartbeats 4000000 in
noncomputable def F_X12_init (s : St) (this : Nat) (p0 : Int32) : Option (Unit × St) := bnd (F_X10_init s this) fun _ s2 => gd (isK s2 this 10) <| nam (setI s2 this 0 p0) fun s5 => some ((), s5)
set_option maxHeartbeats 4000000 in
theorem c_X12_init {l : Launch} {E : EV} (hE : GE E) (h0 : ∀ σ, eSk E σ) {s s' : St} {r : Unit} {this : Nat} {p0 : Int32} (h : F_X12_init  s this p0 = some (r, s')) : CT l E yX12_init cX12_init 2 none 2 40 [vr (some this), vi p0] s none s' := by
  refine CT.start hE (by decide) rfl [(0, vr (some this)), (1, vi p0)] rfl (fun X hX B => ?_)
  skip
  have B : FX X E cX12_init 2 none "RoseThrow$Value" "<init>" (sn s) (ss s) 2 40 := B
  unfold F_X12_init at h
  refine r_aload_n (j := 0) B dX12_init_0 rfl rfl ?_
  obtain ⟨r1, s2, hc3, h⟩ := bnd_e h
  refine r_callIN (As := []) (rest := []) B rfl rfl EX.same (c_X10_init B.ge h0 hc3) (cw_X10_init rfl rfl) rfl (lw_n q975 rfl) q922 rfl dX12_init_1 ?_
  refine r_aload_n (j := 0) B dX12_init_4 rfl rfl ?_
  refine r_iload_n (j := 1) B dX12_init_5 rfl rfl ?_
  obtain ⟨hg4, h⟩ := gd_e h
  obtain ⟨s5, e6, h⟩ := nam_e h
  refine pI10F (k := 0) B e6 rfl (fun _ => isK_e hg4) rfl q976 rfl rfl rfl rfl (fun _ _ _ => rfl) rfl dX12_init_6 ?_
  exact r_vret B dX12_init_9 h
set_option maxHeartbeats 4000000 in
theorem cw_X12_init {X : CX} {fr lo : Nat} (h1 : Nat.ble (2 + 1) fr = true) (h2 : Nat.ble (21 + 40) lo = true) : CW X fr lo yX12_init cX12_init 2 none 2 40 1 := ⟨q974, q148, ⟨by decide +kernel, by decide +kernel, by decide +kernel⟩, Nat.le_of_ble_eq_true h1, Nat.le_of_ble_eq_true h2⟩

set_option maxHeartbeats 4000000 in
noncomputable def F_X6_part (recS : St → Nat → Option ((Option Nat ⊕ Nat) × St)) (s : St) (this : Nat)  : Option ((Option Nat ⊕ Nat) × St) := gd (isRd s this) <| bnd (F_X6_is s this (some 1000000011)) fun r2 s3 => if r2 = 0 then (gd (isRd s3 this) <| gd (isRd s3 this) <| bnd (F_X6_isIn s3 this (si s3 this 3) (48 : Int32) (57 : Int32)) fun r8 s9 => if r8 = 0 then (bnx (F_valueD s9 this) (fun b15 s13 => some (.inr b15, s13)) <| fun r12 s13 => if r12 = (-1 : Int32) then (gd (okN s13 7) <| nam (newO s13 (7, 0) 7) fun s24 => gd (isRd s24 this) <| bnd (F_X8_init s24 (sn s13) (si s24 this 3)) fun _ s28 => gd (isK s28 (sn s13) 7) <| some (.inr (sn s13), s28)) else (gd (okN s13 1) <| nam (newO s13 (10, 0) 1) fun s18 => bnd (F_X12_init s18 (sn s13) r12) fun _ s21 => some (.inl (some (sn s13)), s21))) else (gd (isRd s9 this) <| bnx (F_X6_leaf s9 this) (fun b35 s33 => some (.inr b35, s33)) <| fun _ s33 => gd (okN s33 1) <| nam (newO s33 (9, 0) 1) fun s37 => gd (isRd s37 this) <| bnx (F_X6_number s37 this (0 : Int32) (1000 : Int32)) (fun b43 s41 => some (.inr b43, s41)) <| fun r40 s41 => bnd (F_X11_init s41 (sn s33) r40) fun _ s45 => some (.inl (some (sn s33)), s45))) else (gd (isRd s3 this) <| bnx (F_X6_opens s3 this) (fun b51 s49 => some (.inr b51, s49)) <| fun _ s49 => gd (isRd s49 this) <| bnx (recS s49 this) (fun b56 s54 => some (.inr b56, s54)) <| fun r53 s54 => gd (isRd s54 this) <| bnx (F_X6_need s54 this (some 1000000012)) (fun b61 s59 => some (.inr b61, s59)) <| fun _ s59 => gd (isRd s59 this) <| gd (isRd s59 this) <| nam (setI s59 this 6 ((si s59 this 6) - (1 : Int32))) fun s64 => some (.inl r53, s64))
set_option maxHeartbeats 4000000 in
theorem c_X6_part {l : Launch} {E : EV} (hE : GE E) (h0 : ∀ σ, eSk E σ) {recS : St → Nat → Option ((Option Nat ⊕ Nat) × St)} {FR LO : Nat} (hr : ∀ {s s' : St} {a : Nat} {r : Option Nat ⊕ Nat}, recS s a = some (r, s') → CTX l E yX6_sum cX6_sum 3 (some (.object "RoseThrow$Sum")) FR LO [vr (some a)] s (oX (fun v => some (vr v)) 7 r) s') (hF : 100 ≤ FR) (hL : 9000 ≤ LO) {s s' : St} {r : (Option Nat ⊕ Nat)} {this : Nat}  (h : F_X6_part recS s this = some (r, s')) : CTX l E yX6_part cX6_part 2 (some (.object "RoseThrow$Sum")) (FR + 1) (LO + 60) [vr (some this)] s (oX (fun v => some (vr v)) 7 r) s' := by
  refine CTX.start hE (by decide) rfl [(0, vr (some this))] rfl (fun X hX B ht => ?_)
  subst hX
  have B : FX X E cX6_part 2 (some (.object "RoseThrow$Sum")) "RoseThrow$Reader" "part" (sn s) (ss s) (FR + 1) (LO + 60) := B
  unfold F_X6_part at h
  refine r_aload_n (j := 0) B dX6_part_0 rfl rfl ?_
  refine r_ldcS 11 (o := some 1000000011) B rfl rfl dX6_part_1 ?_
  obtain ⟨hg1, h⟩ := gd_e h
  obtain ⟨r2, s3, hc4, h⟩ := bnd_e h
  refine r_callVv (As := [vr (some 1000000011)]) (rest := []) B rfl rfl EX.same (c_X6_is B.ge h0 hc4) (cw_X6_is (Nat.ble_eq.mpr (by omega)) (Nat.ble_eq.mpr (by omega))) (fun _ => (isRd_e hg1).elim (fun e => RV.of 6 e rfl rfl q2253) (fun e => RV.of 17 e rfl rfl q2254)) q883 q765 rfl dX6_part_3 ?_
  refine r_if_eq (tgt := 36) B dX6_part_6 (by decide) (fun cn5 => ?_) (fun cn5 => ?_)
  · have h := ot cn5 h
    refine r_aload_n (j := 0) B dX6_part_36 rfl rfl ?_
    refine r_aload_n (j := 0) B dX6_part_37 rfl rfl ?_
    obtain ⟨hg6, h⟩ := gd_e h
    refine gRd (k := 3) B (vi (si s3 this 3)) rfl (fun _ => isRd_e hg6) rfl q710 q710 rfl rfl rfl rfl dX6_part_38 ?_
    refine r_bipush (v := 48) B dX6_part_41 (by decide) ?_
    refine r_bipush (v := 57) B dX6_part_43 (by decide) ?_
    obtain ⟨hg7, h⟩ := gd_e h
    obtain ⟨r8, s9, hc10, h⟩ := bnd_e h
    refine r_callVv (As := [vi (si s3 this 3), vi (48 : Int32), vi (57 : Int32)]) (rest := []) B rfl rfl EX.same (c_X6_isIn B.ge h0 hc10) (cw_X6_isIn (Nat.ble_eq.mpr (by omega)) (Nat.ble_eq.mpr (by omega))) (fun _ => (isRd_e hg7).elim (fun e => RV.of 6 e rfl rfl q751) (fun e => RV.of 17 e rfl rfl q752)) q748 q749 rfl dX6_part_45 ?_
    refine r_if_eq (tgt := 71) B dX6_part_48 (by decide) (fun cn11 => ?_) (fun cn11 => ?_)
    · have h := ot cn11 h
      refine r_aload_n (j := 0) B dX6_part_71 rfl rfl ?_
      rcases bnx_e h with ⟨b15, s13, hc14, h⟩ | ⟨r12, s13, hc14, h⟩
      · cases h
        refine r_xDx (owner := "RoseThrow$Reader") (As := []) (rest := []) B rfl rfl EX.same (d_value B.ge h0 _ _ _ _ hc14) (by omega) (by omega) q929 q931 (lw_n q930 rfl) (by decide) rfl dX6_part_72 (fun hk => ?_)
        exact r_out B ht hk rfl (by decide) rfl
      refine r_xDn (owner := "RoseThrow$Reader") (As := []) (rest := []) B rfl rfl EX.same (d_value B.ge h0 _ _ _ _ hc14) (by omega) (by omega) q929 q931 (lw_n q930 rfl) (by decide) rfl dX6_part_72 ?_
      refine r_istore_n (L' := [(0, vr (some this)), (1, vi r12)]) B dX6_part_75 rfl (by decide) rfl rfl rfl ?_
      refine r_iload_n (j := 1) B dX6_part_76 rfl rfl ?_
      refine r_iconst (v := -1) B dX6_part_77 (by decide) ?_
      refine r_ic_ne (tgt := 93) B dX6_part_78 (by decide) (fun cn16 => ?_) (fun cn16 => ?_)
      · have h := of cn16 h
        obtain ⟨hg17, h⟩ := gd_e h
        obtain ⟨s18, e19, h⟩ := nam_e h
        refine r_new B e19 hg17 (c := 10) rfl (by decide) rfl in_X12 tyX12_ok rfl q970 q971 q148 (fun _ => h0 _) dX6_part_93 ?_
        refine r_dup B dX6_part_96 rfl ?_
        refine r_iload_n (j := 1) B dX6_part_97 rfl rfl ?_
        obtain ⟨r20, s21, hc22, h⟩ := bnd_e h
        refine r_callI (As := [vi r12]) (rest := [vr (some (sn s13))]) B rfl rfl EX.same (c_X12_init B.ge h0 hc22) (cw_X12_init (Nat.ble_eq.mpr (by omega)) (Nat.ble_eq.mpr (by omega))) rfl q972 q973 rfl dX6_part_98 ?_
        cases h
        exact r_ret (r_aret (Or.inl ⟨_, rfl⟩) B dX6_part_101 rfl)
      · have h := ot cn16 h
        obtain ⟨hg23, h⟩ := gd_e h
        obtain ⟨s24, e25, h⟩ := nam_e h
        refine r_new B e25 hg23 (c := 7) rfl (by decide) rfl in_X8 tyX8_ok rfl q822 q823 q144 (fun _ => h0 _) dX6_part_81 ?_
        refine r_dup B dX6_part_84 rfl ?_
        refine r_aload_n (j := 0) B dX6_part_85 rfl rfl ?_
        obtain ⟨hg26, h⟩ := gd_e h
        refine gRd (k := 3) B (vi (si s24 this 3)) rfl (fun _ => isRd_e hg26) rfl q710 q710 rfl rfl rfl rfl dX6_part_86 ?_
        obtain ⟨r27, s28, hc29, h⟩ := bnd_e h
        refine r_callI (As := [vi (si s24 this 3)]) (rest := [vr (some (sn s13))]) B rfl rfl EX.same (c_X8_init B.ge h0 hc29) (cw_X8_init (Nat.ble_eq.mpr (by omega)) (Nat.ble_eq.mpr (by omega))) rfl q831 q832 rfl dX6_part_89 ?_
        obtain ⟨hg30, h⟩ := gd_e h
        cases h
        exact r_athrow B rfl dX6_part_92 (r_out B ht (isK_e hg30) rfl (by decide) rfl)
    · have h := of cn11 h
      refine r_aload_n (j := 0) B dX6_part_51 rfl rfl ?_
      obtain ⟨hg31, h⟩ := gd_e h
      rcases bnx_e h with ⟨b35, s33, hc34, h⟩ | ⟨r32, s33, hc34, h⟩
      · cases h
        refine r_xVx (As := []) (rest := []) B rfl rfl EX.same (c_X6_leaf B.ge h0 hc34) (cw_X6_leaf (Nat.ble_eq.mpr (by omega)) (Nat.ble_eq.mpr (by omega))) (fun _ => (isRd_e hg31).elim (fun e => RV.of 6 e rfl rfl q907) (fun e => RV.of 17 e rfl rfl q908)) q904 q905 rfl dX6_part_52 (fun hk => ?_)
        exact r_out B ht hk rfl (by decide) rfl
      refine r_xV0 (As := []) (rest := []) B rfl rfl EX.same (c_X6_leaf B.ge h0 hc34) (cw_X6_leaf (Nat.ble_eq.mpr (by omega)) (Nat.ble_eq.mpr (by omega))) (fun _ => (isRd_e hg31).elim (fun e => RV.of 6 e rfl rfl q907) (fun e => RV.of 17 e rfl rfl q908)) q904 q905 rfl dX6_part_52 ?_
      obtain ⟨hg36, h⟩ := gd_e h
      obtain ⟨s37, e38, h⟩ := nam_e h
      refine r_new B e38 hg36 (c := 9) rfl (by decide) rfl in_X11 tyX11_ok rfl q910 q911 q147 (fun _ => h0 _) dX6_part_55 ?_
      refine r_dup B dX6_part_58 rfl ?_
      refine r_aload_n (j := 0) B dX6_part_59 rfl rfl ?_
      refine r_iconst (v := 0) B dX6_part_60 (by decide) ?_
      refine r_sipush (v := 1000) B dX6_part_61 (by decide) ?_
      obtain ⟨hg39, h⟩ := gd_e h
      rcases bnx_e h with ⟨b43, s41, hc42, h⟩ | ⟨r40, s41, hc42, h⟩
      · cases h
        refine r_xVx (As := [vi (0 : Int32), vi (1000 : Int32)]) (rest := [vr (some (sn s33)), vr (some (sn s33))]) B rfl rfl EX.same (c_X6_number B.ge h0 hc42) (cw_X6_number (Nat.ble_eq.mpr (by omega)) (Nat.ble_eq.mpr (by omega))) (fun _ => (isRd_e hg39).elim (fun e => RV.of 6 e rfl rfl q915) (fun e => RV.of 17 e rfl rfl q916)) q912 q913 rfl dX6_part_64 (fun hk => ?_)
        exact r_out B ht hk rfl (by decide) rfl
      refine r_xVn (As := [vi (0 : Int32), vi (1000 : Int32)]) (rest := [vr (some (sn s33)), vr (some (sn s33))]) B rfl rfl EX.same (c_X6_number B.ge h0 hc42) (cw_X6_number (Nat.ble_eq.mpr (by omega)) (Nat.ble_eq.mpr (by omega))) (fun _ => (isRd_e hg39).elim (fun e => RV.of 6 e rfl rfl q915) (fun e => RV.of 17 e rfl rfl q916)) q912 q913 rfl dX6_part_64 ?_
      obtain ⟨r44, s45, hc46, h⟩ := bnd_e h
      refine r_callI (As := [vi r40]) (rest := [vr (some (sn s33))]) B rfl rfl EX.same (c_X11_init B.ge h0 hc46) (cw_X11_init (Nat.ble_eq.mpr (by omega)) (Nat.ble_eq.mpr (by omega))) rfl q918 q919 rfl dX6_part_67 ?_
      cases h
      exact r_ret (r_aret (Or.inl ⟨_, rfl⟩) B dX6_part_70 rfl)
  · have h := of cn5 h
    refine r_aload_n (j := 0) B dX6_part_9 rfl rfl ?_
    obtain ⟨hg47, h⟩ := gd_e h
    rcases bnx_e h with ⟨b51, s49, hc50, h⟩ | ⟨r48, s49, hc50, h⟩
    · cases h
      refine r_xVx (As := []) (rest := []) B rfl rfl EX.same (c_X6_opens B.ge h0 hc50) (cw_X6_opens (Nat.ble_eq.mpr (by omega)) (Nat.ble_eq.mpr (by omega))) (fun _ => (isRd_e hg47).elim (fun e => RV.of 6 e rfl rfl q887) (fun e => RV.of 17 e rfl rfl q888)) q884 q885 rfl dX6_part_10 (fun hk => ?_)
      exact r_out B ht hk rfl (by decide) rfl
    refine r_xV0 (As := []) (rest := []) B rfl rfl EX.same (c_X6_opens B.ge h0 hc50) (cw_X6_opens (Nat.ble_eq.mpr (by omega)) (Nat.ble_eq.mpr (by omega))) (fun _ => (isRd_e hg47).elim (fun e => RV.of 6 e rfl rfl q887) (fun e => RV.of 17 e rfl rfl q888)) q884 q885 rfl dX6_part_10 ?_
    refine r_aload_n (j := 0) B dX6_part_13 rfl rfl ?_
    obtain ⟨hg52, h⟩ := gd_e h
    rcases bnx_e h with ⟨b56, s54, hc55, h⟩ | ⟨r53, s54, hc55, h⟩
    · cases h
      refine r_xVx (As := []) (rest := []) B rfl rfl EX.same (hr hc55) ⟨q869, q139, ⟨by decide +kernel, by decide +kernel, by decide +kernel⟩, by omega, by omega⟩ (fun _ => (isRd_e hg52).elim (fun e => RV.of 6 e rfl rfl q2256) (fun e => RV.of 17 e rfl rfl q2257)) q890 q868 rfl dX6_part_14 (fun hk => ?_)
      exact r_out B ht hk rfl (by decide) rfl
    refine r_xVn (As := []) (rest := []) B rfl rfl EX.same (hr hc55) ⟨q869, q139, ⟨by decide +kernel, by decide +kernel, by decide +kernel⟩, by omega, by omega⟩ (fun _ => (isRd_e hg52).elim (fun e => RV.of 6 e rfl rfl q2256) (fun e => RV.of 17 e rfl rfl q2257)) q890 q868 rfl dX6_part_14 ?_
    refine r_astore_n (L' := [(0, vr (some this)), (1, vr r53)]) B dX6_part_17 rfl (by decide) rfl rfl rfl ?_
    refine r_aload_n (j := 0) B dX6_part_18 rfl rfl ?_
    refine r_ldcS 12 (o := some 1000000012) B rfl rfl dX6_part_19 ?_
    obtain ⟨hg57, h⟩ := gd_e h
    rcases bnx_e h with ⟨b61, s59, hc60, h⟩ | ⟨r58, s59, hc60, h⟩
    · cases h
      refine r_xVx (As := [vr (some 1000000012)]) (rest := []) B rfl rfl EX.same (c_X6_need B.ge h0 hc60) (cw_X6_need (Nat.ble_eq.mpr (by omega)) (Nat.ble_eq.mpr (by omega))) (fun _ => (isRd_e hg57).elim (fun e => RV.of 6 e rfl rfl q895) (fun e => RV.of 17 e rfl rfl q896)) q892 q893 rfl dX6_part_21 (fun hk => ?_)
      exact r_out B ht hk rfl (by decide) rfl
    refine r_xV0 (As := [vr (some 1000000012)]) (rest := []) B rfl rfl EX.same (c_X6_need B.ge h0 hc60) (cw_X6_need (Nat.ble_eq.mpr (by omega)) (Nat.ble_eq.mpr (by omega))) (fun _ => (isRd_e hg57).elim (fun e => RV.of 6 e rfl rfl q895) (fun e => RV.of 17 e rfl rfl q896)) q892 q893 rfl dX6_part_21 ?_
    refine r_aload_n (j := 0) B dX6_part_24 rfl rfl ?_
    refine r_dup B dX6_part_25 rfl ?_
    obtain ⟨hg62, h⟩ := gd_e h
    refine gRd (k := 6) B (vi (si s59 this 6)) rfl (fun _ => isRd_e hg62) rfl q713 q713 rfl rfl rfl rfl dX6_part_26 ?_
    refine r_iconst (v := 1) B dX6_part_29 (by decide) ?_
    refine r_isub B dX6_part_30 ?_
    obtain ⟨hg63, h⟩ := gd_e h
    obtain ⟨s64, e65, h⟩ := nam_e h
    refine pIRd (k := 6) B e65 rfl (fun _ => isRd_e hg63) rfl q713 q713 rfl rfl rfl rfl (fun _ _ _ => rfl) (fun _ _ _ => rfl) rfl rfl dX6_part_31 ?_
    refine r_aload_n (j := 1) B dX6_part_34 rfl rfl ?_
    cases h
    exact r_ret (r_aret (Or.inl ⟨_, rfl⟩) B dX6_part_35 rfl)
set_option maxHeartbeats 4000000 in
theorem cw_X6_part {FR LO : Nat} {X : CX} {fr lo : Nat} (h1 : Nat.ble ((FR + 1) + 1) fr = true) (h2 : Nat.ble (21 + (LO + 60)) lo = true) : CW X fr lo yX6_part cX6_part 2 (some (.object "RoseThrow$Sum")) (FR + 1) (LO + 60) 0 := ⟨q881, q139, ⟨by decide +kernel, by decide +kernel, by decide +kernel⟩, Nat.le_of_ble_eq_true h1, Nat.le_of_ble_eq_true h2⟩

set_option maxHeartbeats 4000000 in
noncomputable def F_X13_init (s : St) (this : Nat) (p0 : Int32) (p1 : Option Nat) (p2 : Option Nat) : Option (Unit × St) := bnd (F_X10_init s this) fun _ s2 => gd (isK s2 this 11) <| gd (fits .char (.int p0)) <| nam (setI s2 this 0 p0) fun s6 => gd (isK s6 this 11) <| nam (setR s6 this 1 p1) fun s9 => gd (isK s9 this 11) <| nam (setR s9 this 2 p2) fun s12 => some ((), s12)
set_option maxHeartbeats 4000000 in
theorem c_X13_init {l : Launch} {E : EV} (hE : GE E) (h0 : ∀ σ, eSk E σ) {s s' : St} {r : Unit} {this : Nat} {p0 : Int32} {p1 : Option Nat} {p2 : Option Nat} (h : F_X13_init  s this p0 p1 p2 = some (r, s')) : CT l E yX13_init cX13_init 4 none 2 40 [vr (some this), vi p0, vr p1, vr p2] s none s' := by
  refine CT.start hE (by decide) rfl [(0, vr (some this)), (1, vi p0), (2, vr p1), (3, vr p2)] rfl (fun X hX B => ?_)
  skip
  have B : FX X E cX13_init 4 none "RoseThrow$Two" "<init>" (sn s) (ss s) 2 40 := B
  unfold F_X13_init at h
  refine r_aload_n (j := 0) B dX13_init_0 rfl rfl ?_
  obtain ⟨r1, s2, hc3, h⟩ := bnd_e h
  refine r_callIN (As := []) (rest := []) B rfl rfl EX.same (c_X10_init B.ge h0 hc3) (cw_X10_init rfl rfl) rfl (lw_n q988 rfl) q922 rfl dX13_init_1 ?_
  refine r_aload_n (j := 0) B dX13_init_4 rfl rfl ?_
  refine r_iload_n (j := 1) B dX13_init_5 rfl rfl ?_
  obtain ⟨hg4, h⟩ := gd_e h
  obtain ⟨hg5, h⟩ := gd_e h
  obtain ⟨s6, e7, h⟩ := nam_e h
  refine pI11F (k := 0) B e7 rfl (fun _ => isK_e hg4) rfl q989 rfl rfl rfl rfl (fun _ _ _ => rfl) hg5 dX13_init_6 ?_
  refine r_aload_n (j := 0) B dX13_init_9 rfl rfl ?_
  refine r_aload_n (j := 2) B dX13_init_10 rfl rfl ?_
  obtain ⟨hg8, h⟩ := gd_e h
  obtain ⟨s9, e10, h⟩ := nam_e h
  refine pR11F (k := 1) B e10 rfl (fun _ => isK_e hg8) rfl q990 rfl rfl rfl rfl (Or.inl ⟨_, rfl⟩) (fun _ => h0 _) dX13_init_11 ?_
  refine r_aload_n (j := 0) B dX13_init_14 rfl rfl ?_
  refine r_aload_n (j := 3) B dX13_init_15 rfl rfl ?_
  obtain ⟨hg11, h⟩ := gd_e h
  obtain ⟨s12, e13, h⟩ := nam_e h
  refine pR11F (k := 2) B e13 rfl (fun _ => isK_e hg11) rfl q991 rfl rfl rfl rfl (Or.inl ⟨_, rfl⟩) (fun _ => h0 _) dX13_init_16 ?_
  exact r_vret B dX13_init_19 h
set_option maxHeartbeats 4000000 in
theorem cw_X13_init {X : CX} {fr lo : Nat} (h1 : Nat.ble (2 + 1) fr = true) (h2 : Nat.ble (23 + 40) lo = true) : CW X fr lo yX13_init cX13_init 4 none 2 40 3 := ⟨q987, q149, ⟨by decide +kernel, by decide +kernel, by decide +kernel⟩, Nat.le_of_ble_eq_true h1, Nat.le_of_ble_eq_true h2⟩

set_option maxHeartbeats 4000000 in
noncomputable def F_X6_term_32 (recS : St → Nat → Option ((Option Nat ⊕ Nat) × St)) (k5 : St → Option Nat → Option Nat → Option ((Option Nat ⊕ Nat) × St)) (s : St) (x0 : Option Nat) (x1 : Option Nat) : Option ((Option Nat ⊕ Nat) × St) := drf x0 fun a1 => gd (isRd s a1) <| drf x0 fun a4 => gd (isRd s a4) <| drf (sr s a1 0) fun a7 => gd (isK s a7 102) <| gd (inb (si s a4 3) (sk s a7).2) <| nam ((((si s a7 (si s a4 3).toNatClampNeg)).toUInt32 % 65536).toInt32) fun y11 => drf x0 fun a13 => gd (isRd s a13) <| bnd (F_X6_next s a13) fun _ s17 => gd (okN s17 3) <| nam (newO s17 (11, 0) 3) fun s20 => drf x0 fun a22 => gd (isRd s20 a22) <| bnx (F_X6_part recS s20 a22) (fun b28 s26 => some (.inr b28, s26)) <| fun r25 s26 => bnd (F_X13_init s26 (sn s17) y11 x1 r25) fun _ s30 => k5 s30 x0 (some (sn s17))
set_option maxHeartbeats 4000000 in
theorem w_X6_term_32 {X : CX} {E : EV} {a0 s' : St} {r : (Option Nat ⊕ Nat)} {recS : St → Nat → Option ((Option Nat ⊕ Nat) × St)} {FR LO : Nat} (B : FX X E cX6_term 3 (some (.object "RoseThrow$Sum")) "RoseThrow$Reader" "term" (sn a0) (ss a0) (FR + 2) (LO + 120)) (ht : ∀ x ∈ (xC X).exceptionTable.toList, False) (h0 : ∀ σ, eSk E σ) (hr : ∀ {s s' : St} {a : Nat} {r : Option Nat ⊕ Nat}, recS s a = some (r, s') → CTX (xL X) E yX6_sum cX6_sum 3 (some (.object "RoseThrow$Sum")) FR LO [vr (some a)] s (oX (fun v => some (vr v)) 7 r) s') (hF : 100 ≤ FR) (hL : 9000 ≤ LO) (k5 : St → Option Nat → Option Nat → Option ((Option Nat ⊕ Nat) × St)) (hk5 : ∀ (s : St) (x0 : Option Nat) (x1 : Option Nat), k5 s x0 x1 = some (r, s') → J X E (sn a0) (ss a0) 3 (QZ X E a0 (oX (fun v => some (vr v)) 7 r) s') s 5 [(0, vr x0), (1, vr x1)] []) (s : St) (x0 : Option Nat) (x1 : Option Nat) (h : F_X6_term_32 recS k5 s x0 x1 = some (r, s')) : J X E (sn a0) (ss a0) 3 (QZ X E a0 (oX (fun v => some (vr v)) 7 r) s') s 32 [(0, vr x0), (1, vr x1)] [] := by
  unfold F_X6_term_32 at h
  refine r_aload_n (j := 0) B dX6_term_32 rfl rfl ?_
  obtain ⟨a1, ea2, h⟩ := drf_e h
  obtain ⟨hg3, h⟩ := gd_e h
  refine gRd (k := 0) B (vr (sr s a1 0)) ea2 (fun _ => isRd_e hg3) rfl q707 q707 rfl rfl rfl rfl dX6_term_33 ?_
  refine r_aload_n (j := 0) B dX6_term_36 rfl rfl ?_
  obtain ⟨a4, ea5, h⟩ := drf_e h
  obtain ⟨hg6, h⟩ := gd_e h
  refine gRd (k := 3) B (vi (si s a4 3)) ea5 (fun _ => isRd_e hg6) rfl q710 q710 rfl rfl rfl rfl dX6_term_37 ?_
  obtain ⟨a7, ea8, h⟩ := drf_e h
  obtain ⟨hg9, h⟩ := gd_e h
  obtain ⟨hg10, h⟩ := gd_e h
  refine r_bald B ea8 (fun _ => isK_a hg9) hg10 dX6_term_40 ?_
  refine r_i2c B dX6_term_41 ?_
  obtain ⟨y11, e12, h⟩ := nam_e h
  refine r_topi e12 ?_
  refine r_istore_n (L' := [(0, vr x0), (1, vr x1), (2, vi y11)]) B dX6_term_42 rfl (by decide) rfl rfl rfl ?_
  refine r_aload_n (j := 0) B dX6_term_43 rfl rfl ?_
  obtain ⟨a13, ea14, h⟩ := drf_e h
  obtain ⟨hg15, h⟩ := gd_e h
  obtain ⟨r16, s17, hc18, h⟩ := bnd_e h
  refine r_callV0 (As := []) (rest := []) B rfl ea14 EX.same (c_X6_next B.ge h0 hc18) (cw_X6_next (Nat.ble_eq.mpr (by omega)) (Nat.ble_eq.mpr (by omega))) (fun _ => (isRd_e hg15).elim (fun e => RV.of 6 e rfl rfl q745) (fun e => RV.of 17 e rfl rfl q746)) q742 q743 rfl dX6_term_44 ?_
  obtain ⟨hg19, h⟩ := gd_e h
  obtain ⟨s20, e21, h⟩ := nam_e h
  refine r_new B e21 hg19 (c := 11) rfl (by decide) rfl in_X13 tyX13_ok rfl q983 q984 q149 (fun _ => h0 _) dX6_term_47 ?_
  refine r_dup B dX6_term_50 rfl ?_
  refine r_iload_n (j := 2) B dX6_term_51 rfl rfl ?_
  refine r_aload_n (j := 1) B dX6_term_52 rfl rfl ?_
  refine r_aload_n (j := 0) B dX6_term_53 rfl rfl ?_
  obtain ⟨a22, ea23, h⟩ := drf_e h
  obtain ⟨hg24, h⟩ := gd_e h
  rcases bnx_e h with ⟨b28, s26, hc27, h⟩ | ⟨r25, s26, hc27, h⟩
  · cases h
    refine r_xVx (As := []) (rest := [vr x1, vi y11, vr (some (sn s17)), vr (some (sn s17))]) B rfl ea23 EX.same (c_X6_part B.ge h0 hr hF hL hc27) (cw_X6_part (Nat.ble_eq.mpr (by omega)) (Nat.ble_eq.mpr (by omega))) (fun _ => (isRd_e hg24).elim (fun e => RV.of 6 e rfl rfl q879) (fun e => RV.of 17 e rfl rfl q880)) q876 q877 rfl dX6_term_54 (fun hk => ?_)
    exact r_out B ht hk rfl (by decide) rfl
  refine r_xVn (As := []) (rest := [vr x1, vi y11, vr (some (sn s17)), vr (some (sn s17))]) B rfl ea23 EX.same (c_X6_part B.ge h0 hr hF hL hc27) (cw_X6_part (Nat.ble_eq.mpr (by omega)) (Nat.ble_eq.mpr (by omega))) (fun _ => (isRd_e hg24).elim (fun e => RV.of 6 e rfl rfl q879) (fun e => RV.of 17 e rfl rfl q880)) q876 q877 rfl dX6_term_54 ?_
  obtain ⟨r29, s30, hc31, h⟩ := bnd_e h
  refine r_callI (As := [vi y11, vr x1, vr r25]) (rest := [vr (some (sn s17))]) B rfl rfl EX.same (c_X13_init B.ge h0 hc31) (cw_X13_init (Nat.ble_eq.mpr (by omega)) (Nat.ble_eq.mpr (by omega))) rfl q985 q986 rfl dX6_term_57 ?_
  refine r_astore_n (L' := [(0, vr x0), (1, vr (some (sn s17))), (2, vi y11)]) B dX6_term_60 rfl (by decide) rfl rfl rfl ?_
  refine r_goto (tgt := 5) B dX6_term_61 (by decide) ?_
  refine r_pick [0, 1] (L' := [(0, vr x0), (1, vr (some (sn s17)))]) rfl ?_
  exact hk5 s30 x0 (some (sn s17)) h
set_option maxHeartbeats 4000000 in
noncomputable def F_X6_term_5 (recS : St → Nat → Option ((Option Nat ⊕ Nat) × St)) : Nat → St → Option Nat → Option Nat → Option ((Option Nat ⊕ Nat) × St)
  | 0 => fun _ _ _ => none
  | n + 1 => fun s x0 x1 => drf x0 fun a1 => gd (isRd s a1) <| bnd (F_X6_is s a1 (some 1000000013)) fun r4 s5 => if r4 = 0 then (drf x0 fun a8 => gd (isRd s5 a8) <| bnd (F_X6_is s5 a8 (some 1000000014)) fun r11 s12 => if r11 = 0 then (drf x0 fun a15 => gd (isRd s12 a15) <| bnd (F_X6_is s12 a15 (some 1000000015)) fun r18 s19 => if r18 = 0 then (some (.inl x1, s19)) else (F_X6_term_32 recS (F_X6_term_5 recS n) s19 x0 x1)) else (F_X6_term_32 recS (F_X6_term_5 recS n) s12 x0 x1)) else (F_X6_term_32 recS (F_X6_term_5 recS n) s5 x0 x1)
set_option maxHeartbeats 4000000 in
theorem w_X6_term_5 {X : CX} {E : EV} {a0 s' : St} {r : (Option Nat ⊕ Nat)} {recS : St → Nat → Option ((Option Nat ⊕ Nat) × St)} {FR LO : Nat} (B : FX X E cX6_term 3 (some (.object "RoseThrow$Sum")) "RoseThrow$Reader" "term" (sn a0) (ss a0) (FR + 2) (LO + 120)) (ht : ∀ x ∈ (xC X).exceptionTable.toList, False) (h0 : ∀ σ, eSk E σ) (hr : ∀ {s s' : St} {a : Nat} {r : Option Nat ⊕ Nat}, recS s a = some (r, s') → CTX (xL X) E yX6_sum cX6_sum 3 (some (.object "RoseThrow$Sum")) FR LO [vr (some a)] s (oX (fun v => some (vr v)) 7 r) s') (hF : 100 ≤ FR) (hL : 9000 ≤ LO) : ∀ (n : Nat) (s : St) (x0 : Option Nat) (x1 : Option Nat), F_X6_term_5 recS  n s x0 x1 = some (r, s') → J X E (sn a0) (ss a0) 3 (QZ X E a0 (oX (fun v => some (vr v)) 7 r) s') s 5 [(0, vr x0), (1, vr x1)] [] := by
  intro n
  induction n with
  | zero => intro s x0 x1 h; exact absurd (show (none : Option ((Option Nat ⊕ Nat) × St)) = _ from h) (by simp)
  | succ n ih =>
    intro s x0 x1 h
    rw [F_X6_term_5] at h
    refine r_aload_n (j := 0) B dX6_term_5 rfl rfl ?_
    refine r_ldcS 13 (o := some 1000000013) B rfl rfl dX6_term_6 ?_
    obtain ⟨a1, ea2, h⟩ := drf_e h
    obtain ⟨hg3, h⟩ := gd_e h
    obtain ⟨r4, s5, hc6, h⟩ := bnd_e h
    refine r_callVv (As := [vr (some 1000000013)]) (rest := []) B rfl ea2 EX.same (c_X6_is B.ge h0 hc6) (cw_X6_is (Nat.ble_eq.mpr (by omega)) (Nat.ble_eq.mpr (by omega))) (fun _ => (isRd_e hg3).elim (fun e => RV.of 6 e rfl rfl q2253) (fun e => RV.of 17 e rfl rfl q2254)) q883 q765 rfl dX6_term_8 ?_
    refine r_if_ne (tgt := 32) B dX6_term_11 (by decide) (fun cn7 => ?_) (fun cn7 => ?_)
    · have h := of cn7 h
      exact w_X6_term_32 B ht h0 hr hF hL (F_X6_term_5 recS n) ih s5 x0 x1 h
    · have h := ot cn7 h
      refine r_aload_n (j := 0) B dX6_term_14 rfl rfl ?_
      refine r_ldcS 14 (o := some 1000000014) B rfl rfl dX6_term_15 ?_
      obtain ⟨a8, ea9, h⟩ := drf_e h
      obtain ⟨hg10, h⟩ := gd_e h
      obtain ⟨r11, s12, hc13, h⟩ := bnd_e h
      refine r_callVv (As := [vr (some 1000000014)]) (rest := []) B rfl ea9 EX.same (c_X6_is B.ge h0 hc13) (cw_X6_is (Nat.ble_eq.mpr (by omega)) (Nat.ble_eq.mpr (by omega))) (fun _ => (isRd_e hg10).elim (fun e => RV.of 6 e rfl rfl q2253) (fun e => RV.of 17 e rfl rfl q2254)) q883 q765 rfl dX6_term_17 ?_
      refine r_if_ne (tgt := 32) B dX6_term_20 (by decide) (fun cn14 => ?_) (fun cn14 => ?_)
      · have h := of cn14 h
        exact w_X6_term_32 B ht h0 hr hF hL (F_X6_term_5 recS n) ih s12 x0 x1 h
      · have h := ot cn14 h
        refine r_aload_n (j := 0) B dX6_term_23 rfl rfl ?_
        refine r_ldcS 15 (o := some 1000000015) B rfl rfl dX6_term_24 ?_
        obtain ⟨a15, ea16, h⟩ := drf_e h
        obtain ⟨hg17, h⟩ := gd_e h
        obtain ⟨r18, s19, hc20, h⟩ := bnd_e h
        refine r_callVv (As := [vr (some 1000000015)]) (rest := []) B rfl ea16 EX.same (c_X6_is B.ge h0 hc20) (cw_X6_is (Nat.ble_eq.mpr (by omega)) (Nat.ble_eq.mpr (by omega))) (fun _ => (isRd_e hg17).elim (fun e => RV.of 6 e rfl rfl q2253) (fun e => RV.of 17 e rfl rfl q2254)) q883 q765 rfl dX6_term_26 ?_
        refine r_if_eq (tgt := 64) B dX6_term_29 (by decide) (fun cn21 => ?_) (fun cn21 => ?_)
        · have h := ot cn21 h
          refine r_aload_n (j := 1) B dX6_term_64 rfl rfl ?_
          cases h
          exact r_ret (r_aret (Or.inl ⟨_, rfl⟩) B dX6_term_65 rfl)
        · have h := of cn21 h
          exact w_X6_term_32 B ht h0 hr hF hL (F_X6_term_5 recS n) ih s19 x0 x1 h
set_option maxHeartbeats 4000000 in
noncomputable def F_X6_term (recS : St → Nat → Option ((Option Nat ⊕ Nat) × St)) (s : St) (this : Nat)  : Option ((Option Nat ⊕ Nat) × St) := gd (isRd s this) <| bnx (F_X6_part recS s this) (fun b5 s3 => some (.inr b5, s3)) <| fun r2 s3 => F_X6_term_5 recS FU s3 (some this) r2
set_option maxHeartbeats 4000000 in
theorem c_X6_term {l : Launch} {E : EV} (hE : GE E) (h0 : ∀ σ, eSk E σ) {recS : St → Nat → Option ((Option Nat ⊕ Nat) × St)} {FR LO : Nat} (hr : ∀ {s s' : St} {a : Nat} {r : Option Nat ⊕ Nat}, recS s a = some (r, s') → CTX l E yX6_sum cX6_sum 3 (some (.object "RoseThrow$Sum")) FR LO [vr (some a)] s (oX (fun v => some (vr v)) 7 r) s') (hF : 100 ≤ FR) (hL : 9000 ≤ LO) {s s' : St} {r : (Option Nat ⊕ Nat)} {this : Nat}  (h : F_X6_term recS s this = some (r, s')) : CTX l E yX6_term cX6_term 3 (some (.object "RoseThrow$Sum")) (FR + 2) (LO + 120) [vr (some this)] s (oX (fun v => some (vr v)) 7 r) s' := by
  refine CTX.start hE (by decide) rfl [(0, vr (some this))] rfl (fun X hX B ht => ?_)
  subst hX
  have B : FX X E cX6_term 3 (some (.object "RoseThrow$Sum")) "RoseThrow$Reader" "term" (sn s) (ss s) (FR + 2) (LO + 120) := B
  unfold F_X6_term at h
  refine r_aload_n (j := 0) B dX6_term_0 rfl rfl ?_
  obtain ⟨hg1, h⟩ := gd_e h
  rcases bnx_e h with ⟨b5, s3, hc4, h⟩ | ⟨r2, s3, hc4, h⟩
  · cases h
    refine r_xVx (As := []) (rest := []) B rfl rfl EX.same (c_X6_part B.ge h0 hr hF hL hc4) (cw_X6_part (Nat.ble_eq.mpr (by omega)) (Nat.ble_eq.mpr (by omega))) (fun _ => (isRd_e hg1).elim (fun e => RV.of 6 e rfl rfl q879) (fun e => RV.of 17 e rfl rfl q880)) q876 q877 rfl dX6_term_1 (fun hk => ?_)
    exact r_out B ht hk rfl (by decide) rfl
  refine r_xVn (As := []) (rest := []) B rfl rfl EX.same (c_X6_part B.ge h0 hr hF hL hc4) (cw_X6_part (Nat.ble_eq.mpr (by omega)) (Nat.ble_eq.mpr (by omega))) (fun _ => (isRd_e hg1).elim (fun e => RV.of 6 e rfl rfl q879) (fun e => RV.of 17 e rfl rfl q880)) q876 q877 rfl dX6_term_1 ?_
  refine r_astore_n (L' := [(0, vr (some this)), (1, vr r2)]) B dX6_term_4 rfl (by decide) rfl rfl rfl ?_
  exact w_X6_term_5 B ht h0 hr hF hL FU s3 (some this) r2 h
set_option maxHeartbeats 4000000 in
theorem cw_X6_term {FR LO : Nat} {X : CX} {fr lo : Nat} (h1 : Nat.ble ((FR + 2) + 1) fr = true) (h2 : Nat.ble (22 + (LO + 120)) lo = true) : CW X fr lo yX6_term cX6_term 3 (some (.object "RoseThrow$Sum")) (FR + 2) (LO + 120) 0 := ⟨q875, q139, ⟨by decide +kernel, by decide +kernel, by decide +kernel⟩, Nat.le_of_ble_eq_true h1, Nat.le_of_ble_eq_true h2⟩

set_option maxHeartbeats 4000000 in
noncomputable def F_X6_sum_23 (recS : St → Nat → Option ((Option Nat ⊕ Nat) × St)) (k5 : St → Option Nat → Option Nat → Option ((Option Nat ⊕ Nat) × St)) (s : St) (x0 : Option Nat) (x1 : Option Nat) : Option ((Option Nat ⊕ Nat) × St) := drf x0 fun a1 => gd (isRd s a1) <| drf x0 fun a4 => gd (isRd s a4) <| drf (sr s a1 0) fun a7 => gd (isK s a7 102) <| gd (inb (si s a4 3) (sk s a7).2) <| nam ((((si s a7 (si s a4 3).toNatClampNeg)).toUInt32 % 65536).toInt32) fun y11 => drf x0 fun a13 => gd (isRd s a13) <| bnd (F_X6_next s a13) fun _ s17 => gd (okN s17 3) <| nam (newO s17 (11, 0) 3) fun s20 => drf x0 fun a22 => gd (isRd s20 a22) <| bnx (F_X6_term recS s20 a22) (fun b28 s26 => some (.inr b28, s26)) <| fun r25 s26 => bnd (F_X13_init s26 (sn s17) y11 x1 r25) fun _ s30 => k5 s30 x0 (some (sn s17))
set_option maxHeartbeats 4000000 in
theorem w_X6_sum_23 {X : CX} {E : EV} {a0 s' : St} {r : (Option Nat ⊕ Nat)} {recS : St → Nat → Option ((Option Nat ⊕ Nat) × St)} {FR LO : Nat} (B : FX X E cX6_sum 3 (some (.object "RoseThrow$Sum")) "RoseThrow$Reader" "sum" (sn a0) (ss a0) (FR + 3) (LO + 180)) (ht : ∀ x ∈ (xC X).exceptionTable.toList, False) (h0 : ∀ σ, eSk E σ) (hr : ∀ {s s' : St} {a : Nat} {r : Option Nat ⊕ Nat}, recS s a = some (r, s') → CTX (xL X) E yX6_sum cX6_sum 3 (some (.object "RoseThrow$Sum")) FR LO [vr (some a)] s (oX (fun v => some (vr v)) 7 r) s') (hF : 100 ≤ FR) (hL : 9000 ≤ LO) (k5 : St → Option Nat → Option Nat → Option ((Option Nat ⊕ Nat) × St)) (hk5 : ∀ (s : St) (x0 : Option Nat) (x1 : Option Nat), k5 s x0 x1 = some (r, s') → J X E (sn a0) (ss a0) 3 (QZ X E a0 (oX (fun v => some (vr v)) 7 r) s') s 5 [(0, vr x0), (1, vr x1)] []) (s : St) (x0 : Option Nat) (x1 : Option Nat) (h : F_X6_sum_23 recS k5 s x0 x1 = some (r, s')) : J X E (sn a0) (ss a0) 3 (QZ X E a0 (oX (fun v => some (vr v)) 7 r) s') s 23 [(0, vr x0), (1, vr x1)] [] := by
  unfold F_X6_sum_23 at h
  refine r_aload_n (j := 0) B dX6_sum_23 rfl rfl ?_
  obtain ⟨a1, ea2, h⟩ := drf_e h
  obtain ⟨hg3, h⟩ := gd_e h
  refine gRd (k := 0) B (vr (sr s a1 0)) ea2 (fun _ => isRd_e hg3) rfl q707 q707 rfl rfl rfl rfl dX6_sum_24 ?_
  refine r_aload_n (j := 0) B dX6_sum_27 rfl rfl ?_
  obtain ⟨a4, ea5, h⟩ := drf_e h
  obtain ⟨hg6, h⟩ := gd_e h
  refine gRd (k := 3) B (vi (si s a4 3)) ea5 (fun _ => isRd_e hg6) rfl q710 q710 rfl rfl rfl rfl dX6_sum_28 ?_
  obtain ⟨a7, ea8, h⟩ := drf_e h
  obtain ⟨hg9, h⟩ := gd_e h
  obtain ⟨hg10, h⟩ := gd_e h
  refine r_bald B ea8 (fun _ => isK_a hg9) hg10 dX6_sum_31 ?_
  refine r_i2c B dX6_sum_32 ?_
  obtain ⟨y11, e12, h⟩ := nam_e h
  refine r_topi e12 ?_
  refine r_istore_n (L' := [(0, vr x0), (1, vr x1), (2, vi y11)]) B dX6_sum_33 rfl (by decide) rfl rfl rfl ?_
  refine r_aload_n (j := 0) B dX6_sum_34 rfl rfl ?_
  obtain ⟨a13, ea14, h⟩ := drf_e h
  obtain ⟨hg15, h⟩ := gd_e h
  obtain ⟨r16, s17, hc18, h⟩ := bnd_e h
  refine r_callV0 (As := []) (rest := []) B rfl ea14 EX.same (c_X6_next B.ge h0 hc18) (cw_X6_next (Nat.ble_eq.mpr (by omega)) (Nat.ble_eq.mpr (by omega))) (fun _ => (isRd_e hg15).elim (fun e => RV.of 6 e rfl rfl q745) (fun e => RV.of 17 e rfl rfl q746)) q742 q743 rfl dX6_sum_35 ?_
  obtain ⟨hg19, h⟩ := gd_e h
  obtain ⟨s20, e21, h⟩ := nam_e h
  refine r_new B e21 hg19 (c := 11) rfl (by decide) rfl in_X13 tyX13_ok rfl q983 q984 q149 (fun _ => h0 _) dX6_sum_38 ?_
  refine r_dup B dX6_sum_41 rfl ?_
  refine r_iload_n (j := 2) B dX6_sum_42 rfl rfl ?_
  refine r_aload_n (j := 1) B dX6_sum_43 rfl rfl ?_
  refine r_aload_n (j := 0) B dX6_sum_44 rfl rfl ?_
  obtain ⟨a22, ea23, h⟩ := drf_e h
  obtain ⟨hg24, h⟩ := gd_e h
  rcases bnx_e h with ⟨b28, s26, hc27, h⟩ | ⟨r25, s26, hc27, h⟩
  · cases h
    refine r_xVx (As := []) (rest := [vr x1, vi y11, vr (some (sn s17)), vr (some (sn s17))]) B rfl ea23 EX.same (c_X6_term B.ge h0 hr hF hL hc27) (cw_X6_term (Nat.ble_eq.mpr (by omega)) (Nat.ble_eq.mpr (by omega))) (fun _ => (isRd_e hg24).elim (fun e => RV.of 6 e rfl rfl q873) (fun e => RV.of 17 e rfl rfl q874)) q870 q871 rfl dX6_sum_45 (fun hk => ?_)
    exact r_out B ht hk rfl (by decide) rfl
  refine r_xVn (As := []) (rest := [vr x1, vi y11, vr (some (sn s17)), vr (some (sn s17))]) B rfl ea23 EX.same (c_X6_term B.ge h0 hr hF hL hc27) (cw_X6_term (Nat.ble_eq.mpr (by omega)) (Nat.ble_eq.mpr (by omega))) (fun _ => (isRd_e hg24).elim (fun e => RV.of 6 e rfl rfl q873) (fun e => RV.of 17 e rfl rfl q874)) q870 q871 rfl dX6_sum_45 ?_
  obtain ⟨r29, s30, hc31, h⟩ := bnd_e h
  refine r_callI (As := [vi y11, vr x1, vr r25]) (rest := [vr (some (sn s17))]) B rfl rfl EX.same (c_X13_init B.ge h0 hc31) (cw_X13_init (Nat.ble_eq.mpr (by omega)) (Nat.ble_eq.mpr (by omega))) rfl q985 q986 rfl dX6_sum_48 ?_
  refine r_astore_n (L' := [(0, vr x0), (1, vr (some (sn s17))), (2, vi y11)]) B dX6_sum_51 rfl (by decide) rfl rfl rfl ?_
  refine r_goto (tgt := 5) B dX6_sum_52 (by decide) ?_
  refine r_pick [0, 1] (L' := [(0, vr x0), (1, vr (some (sn s17)))]) rfl ?_
  exact hk5 s30 x0 (some (sn s17)) h
set_option maxHeartbeats 4000000 in
noncomputable def F_X6_sum_5 (recS : St → Nat → Option ((Option Nat ⊕ Nat) × St)) : Nat → St → Option Nat → Option Nat → Option ((Option Nat ⊕ Nat) × St)
  | 0 => fun _ _ _ => none
  | n + 1 => fun s x0 x1 => drf x0 fun a1 => gd (isRd s a1) <| bnd (F_X6_is s a1 (some 1000000016)) fun r4 s5 => if r4 = 0 then (drf x0 fun a8 => gd (isRd s5 a8) <| bnd (F_X6_is s5 a8 (some 1000000017)) fun r11 s12 => if r11 = 0 then (some (.inl x1, s12)) else (F_X6_sum_23 recS (F_X6_sum_5 recS n) s12 x0 x1)) else (F_X6_sum_23 recS (F_X6_sum_5 recS n) s5 x0 x1)
set_option maxHeartbeats 4000000 in
theorem w_X6_sum_5 {X : CX} {E : EV} {a0 s' : St} {r : (Option Nat ⊕ Nat)} {recS : St → Nat → Option ((Option Nat ⊕ Nat) × St)} {FR LO : Nat} (B : FX X E cX6_sum 3 (some (.object "RoseThrow$Sum")) "RoseThrow$Reader" "sum" (sn a0) (ss a0) (FR + 3) (LO + 180)) (ht : ∀ x ∈ (xC X).exceptionTable.toList, False) (h0 : ∀ σ, eSk E σ) (hr : ∀ {s s' : St} {a : Nat} {r : Option Nat ⊕ Nat}, recS s a = some (r, s') → CTX (xL X) E yX6_sum cX6_sum 3 (some (.object "RoseThrow$Sum")) FR LO [vr (some a)] s (oX (fun v => some (vr v)) 7 r) s') (hF : 100 ≤ FR) (hL : 9000 ≤ LO) : ∀ (n : Nat) (s : St) (x0 : Option Nat) (x1 : Option Nat), F_X6_sum_5 recS  n s x0 x1 = some (r, s') → J X E (sn a0) (ss a0) 3 (QZ X E a0 (oX (fun v => some (vr v)) 7 r) s') s 5 [(0, vr x0), (1, vr x1)] [] := by
  intro n
  induction n with
  | zero => intro s x0 x1 h; exact absurd (show (none : Option ((Option Nat ⊕ Nat) × St)) = _ from h) (by simp)
  | succ n ih =>
    intro s x0 x1 h
    rw [F_X6_sum_5] at h
    refine r_aload_n (j := 0) B dX6_sum_5 rfl rfl ?_
    refine r_ldcS 16 (o := some 1000000016) B rfl rfl dX6_sum_6 ?_
    obtain ⟨a1, ea2, h⟩ := drf_e h
    obtain ⟨hg3, h⟩ := gd_e h
    obtain ⟨r4, s5, hc6, h⟩ := bnd_e h
    refine r_callVv (As := [vr (some 1000000016)]) (rest := []) B rfl ea2 EX.same (c_X6_is B.ge h0 hc6) (cw_X6_is (Nat.ble_eq.mpr (by omega)) (Nat.ble_eq.mpr (by omega))) (fun _ => (isRd_e hg3).elim (fun e => RV.of 6 e rfl rfl q2253) (fun e => RV.of 17 e rfl rfl q2254)) q883 q765 rfl dX6_sum_8 ?_
    refine r_if_ne (tgt := 23) B dX6_sum_11 (by decide) (fun cn7 => ?_) (fun cn7 => ?_)
    · have h := of cn7 h
      exact w_X6_sum_23 B ht h0 hr hF hL (F_X6_sum_5 recS n) ih s5 x0 x1 h
    · have h := ot cn7 h
      refine r_aload_n (j := 0) B dX6_sum_14 rfl rfl ?_
      refine r_ldcS 17 (o := some 1000000017) B rfl rfl dX6_sum_15 ?_
      obtain ⟨a8, ea9, h⟩ := drf_e h
      obtain ⟨hg10, h⟩ := gd_e h
      obtain ⟨r11, s12, hc13, h⟩ := bnd_e h
      refine r_callVv (As := [vr (some 1000000017)]) (rest := []) B rfl ea9 EX.same (c_X6_is B.ge h0 hc13) (cw_X6_is (Nat.ble_eq.mpr (by omega)) (Nat.ble_eq.mpr (by omega))) (fun _ => (isRd_e hg10).elim (fun e => RV.of 6 e rfl rfl q2253) (fun e => RV.of 17 e rfl rfl q2254)) q883 q765 rfl dX6_sum_17 ?_
      refine r_if_eq (tgt := 55) B dX6_sum_20 (by decide) (fun cn14 => ?_) (fun cn14 => ?_)
      · have h := ot cn14 h
        refine r_aload_n (j := 1) B dX6_sum_55 rfl rfl ?_
        cases h
        exact r_ret (r_aret (Or.inl ⟨_, rfl⟩) B dX6_sum_56 rfl)
      · have h := of cn14 h
        exact w_X6_sum_23 B ht h0 hr hF hL (F_X6_sum_5 recS n) ih s12 x0 x1 h
set_option maxHeartbeats 4000000 in
noncomputable def F_X6_sum (recS : St → Nat → Option ((Option Nat ⊕ Nat) × St)) (s : St) (this : Nat)  : Option ((Option Nat ⊕ Nat) × St) := gd (isRd s this) <| bnx (F_X6_term recS s this) (fun b5 s3 => some (.inr b5, s3)) <| fun r2 s3 => F_X6_sum_5 recS FU s3 (some this) r2
set_option maxHeartbeats 4000000 in
theorem c_X6_sum {l : Launch} {E : EV} (hE : GE E) (h0 : ∀ σ, eSk E σ) {recS : St → Nat → Option ((Option Nat ⊕ Nat) × St)} {FR LO : Nat} (hr : ∀ {s s' : St} {a : Nat} {r : Option Nat ⊕ Nat}, recS s a = some (r, s') → CTX l E yX6_sum cX6_sum 3 (some (.object "RoseThrow$Sum")) FR LO [vr (some a)] s (oX (fun v => some (vr v)) 7 r) s') (hF : 100 ≤ FR) (hL : 9000 ≤ LO) {s s' : St} {r : (Option Nat ⊕ Nat)} {this : Nat}  (h : F_X6_sum recS s this = some (r, s')) : CTX l E yX6_sum cX6_sum 3 (some (.object "RoseThrow$Sum")) (FR + 3) (LO + 180) [vr (some this)] s (oX (fun v => some (vr v)) 7 r) s' := by
  refine CTX.start hE (by decide) rfl [(0, vr (some this))] rfl (fun X hX B ht => ?_)
  subst hX
  have B : FX X E cX6_sum 3 (some (.object "RoseThrow$Sum")) "RoseThrow$Reader" "sum" (sn s) (ss s) (FR + 3) (LO + 180) := B
  unfold F_X6_sum at h
  refine r_aload_n (j := 0) B dX6_sum_0 rfl rfl ?_
  obtain ⟨hg1, h⟩ := gd_e h
  rcases bnx_e h with ⟨b5, s3, hc4, h⟩ | ⟨r2, s3, hc4, h⟩
  · cases h
    refine r_xVx (As := []) (rest := []) B rfl rfl EX.same (c_X6_term B.ge h0 hr hF hL hc4) (cw_X6_term (Nat.ble_eq.mpr (by omega)) (Nat.ble_eq.mpr (by omega))) (fun _ => (isRd_e hg1).elim (fun e => RV.of 6 e rfl rfl q873) (fun e => RV.of 17 e rfl rfl q874)) q870 q871 rfl dX6_sum_1 (fun hk => ?_)
    exact r_out B ht hk rfl (by decide) rfl
  refine r_xVn (As := []) (rest := []) B rfl rfl EX.same (c_X6_term B.ge h0 hr hF hL hc4) (cw_X6_term (Nat.ble_eq.mpr (by omega)) (Nat.ble_eq.mpr (by omega))) (fun _ => (isRd_e hg1).elim (fun e => RV.of 6 e rfl rfl q873) (fun e => RV.of 17 e rfl rfl q874)) q870 q871 rfl dX6_sum_1 ?_
  refine r_astore_n (L' := [(0, vr (some this)), (1, vr r2)]) B dX6_sum_4 rfl (by decide) rfl rfl rfl ?_
  exact w_X6_sum_5 B ht h0 hr hF hL FU s3 (some this) r2 h
set_option maxHeartbeats 4000000 in
theorem cw_X6_sum {FR LO : Nat} {X : CX} {fr lo : Nat} (h1 : Nat.ble ((FR + 3) + 1) fr = true) (h2 : Nat.ble (22 + (LO + 180)) lo = true) : CW X fr lo yX6_sum cX6_sum 3 (some (.object "RoseThrow$Sum")) (FR + 3) (LO + 180) 0 := ⟨q869, q139, ⟨by decide +kernel, by decide +kernel, by decide +kernel⟩, Nat.le_of_ble_eq_true h1, Nat.le_of_ble_eq_true h2⟩

noncomputable def F_sumR : Nat → St → Nat → Option ((Option Nat ⊕ Nat) × St)
  | 0 => fun _ _ => none
  | d + 1 => fun s a => F_X6_sum (F_sumR d) s a
theorem c_sumR {l : Launch} {E : EV} (hE : GE E) (h0 : ∀ σ, eSk E σ) : ∀ (d : Nat) (s : St) (a : Nat) (r : Option Nat ⊕ Nat) (s' : St), F_sumR d s a = some (r, s') → CTX l E yX6_sum cX6_sum 3 (some (.object "RoseThrow$Sum")) (100 + 3 * d) (9000 + 180 * d) [vr (some a)] s (oX (fun v => some (vr v)) 7 r) s' := by
  intro d
  induction d with
  | zero => intro s a r s' h; cases h
  | succ d ih =>
    intro s a r s' h
    exact c_X6_sum hE h0 (FR := 100 + 3 * d) (LO := 9000 + 180 * d) (fun {_ _ _ _} h => ih _ _ _ _ h) (Nat.le_add_right _ _) (Nat.le_add_right _ _) h

set_option maxHeartbeats 4000000 in
noncomputable def F_X14_init (s : St) (this : Nat)  : Option (Unit × St) := some ((), s)
set_option maxHeartbeats 4000000 in
theorem c_X14_init {l : Launch} {E : EV} (hE : GE E) (h0 : ∀ σ, eSk E σ) {s s' : St} {r : Unit} {this : Nat}  (h : F_X14_init  s this = some (r, s')) : CT l E yX14_init cX14_init 1 none 1 20 [vr (some this)] s none s' := by
  refine CT.start hE (by decide) rfl [(0, vr (some this))] rfl (fun X hX B => ?_)
  skip
  have B : FX X E cX14_init 1 none "RoseThrow$Test" "<init>" (sn s) (ss s) 1 20 := B
  unfold F_X14_init at h
  refine r_aload_n (j := 0) B dX14_init_0 rfl rfl ?_
  refine r_objInit B rfl q1045 q168 q169 (by decide) (by decide) rfl dX14_init_1 ?_
  exact r_vret B dX14_init_4 h
set_option maxHeartbeats 4000000 in
theorem cw_X14_init {X : CX} {fr lo : Nat} (h1 : Nat.ble (1 + 1) fr = true) (h2 : Nat.ble (20 + 20) lo = true) : CW X fr lo yX14_init cX14_init 1 none 1 20 0 := ⟨q1044, q150, ⟨by decide +kernel, by decide +kernel, by decide +kernel⟩, Nat.le_of_ble_eq_true h1, Nat.le_of_ble_eq_true h2⟩

set_option maxHeartbeats 4000000 in
noncomputable def F_X15_init (s : St) (this : Nat) (p0 : Int32) (p1 : Option Nat) (p2 : Option Nat) : Option (Unit × St) := bnd (F_X14_init s this) fun _ s2 => gd (isK s2 this 12) <| gd (fits .char (.int p0)) <| nam (setI s2 this 0 p0) fun s6 => gd (isK s6 this 12) <| nam (setR s6 this 1 p1) fun s9 => gd (isK s9 this 12) <| nam (setR s9 this 2 p2) fun s12 => some ((), s12)
set_option maxHeartbeats 4000000 in
theorem c_X15_init {l : Launch} {E : EV} (hE : GE E) (h0 : ∀ σ, eSk E σ) {s s' : St} {r : Unit} {this : Nat} {p0 : Int32} {p1 : Option Nat} {p2 : Option Nat} (h : F_X15_init  s this p0 p1 p2 = some (r, s')) : CT l E yX15_init cX15_init 4 none 2 40 [vr (some this), vi p0, vr p1, vr p2] s none s' := by
  refine CT.start hE (by decide) rfl [(0, vr (some this)), (1, vi p0), (2, vr p1), (3, vr p2)] rfl (fun X hX B => ?_)
  skip
  have B : FX X E cX15_init 4 none "RoseThrow$Compare" "<init>" (sn s) (ss s) 2 40 := B
  unfold F_X15_init at h
  refine r_aload_n (j := 0) B dX15_init_0 rfl rfl ?_
  obtain ⟨r1, s2, hc3, h⟩ := bnd_e h
  refine r_callIN (As := []) (rest := []) B rfl rfl EX.same (c_X14_init B.ge h0 hc3) (cw_X14_init rfl rfl) rfl (lw_n q1042 rfl) q1043 rfl dX15_init_1 ?_
  refine r_aload_n (j := 0) B dX15_init_4 rfl rfl ?_
  refine r_iload_n (j := 1) B dX15_init_5 rfl rfl ?_
  obtain ⟨hg4, h⟩ := gd_e h
  obtain ⟨hg5, h⟩ := gd_e h
  obtain ⟨s6, e7, h⟩ := nam_e h
  refine pI12F (k := 0) B e7 rfl (fun _ => isK_e hg4) rfl q1046 rfl rfl rfl rfl (fun _ _ _ => rfl) hg5 dX15_init_6 ?_
  refine r_aload_n (j := 0) B dX15_init_9 rfl rfl ?_
  refine r_aload_n (j := 2) B dX15_init_10 rfl rfl ?_
  obtain ⟨hg8, h⟩ := gd_e h
  obtain ⟨s9, e10, h⟩ := nam_e h
  refine pR12F (k := 1) B e10 rfl (fun _ => isK_e hg8) rfl q1047 rfl rfl rfl rfl (Or.inl ⟨_, rfl⟩) (fun _ => h0 _) dX15_init_11 ?_
  refine r_aload_n (j := 0) B dX15_init_14 rfl rfl ?_
  refine r_aload_n (j := 3) B dX15_init_15 rfl rfl ?_
  obtain ⟨hg11, h⟩ := gd_e h
  obtain ⟨s12, e13, h⟩ := nam_e h
  refine pR12F (k := 2) B e13 rfl (fun _ => isK_e hg11) rfl q1048 rfl rfl rfl rfl (Or.inl ⟨_, rfl⟩) (fun _ => h0 _) dX15_init_16 ?_
  exact r_vret B dX15_init_19 h
set_option maxHeartbeats 4000000 in
theorem cw_X15_init {X : CX} {fr lo : Nat} (h1 : Nat.ble (2 + 1) fr = true) (h2 : Nat.ble (23 + 40) lo = true) : CW X fr lo yX15_init cX15_init 4 none 2 40 3 := ⟨q1041, q151, ⟨by decide +kernel, by decide +kernel, by decide +kernel⟩, Nat.le_of_ble_eq_true h1, Nat.le_of_ble_eq_true h2⟩

set_option maxHeartbeats 4000000 in
noncomputable def F_X6_positive_80 (recT : St → Nat → Option ((Option Nat ⊕ Nat) × St)) (s : St) (x0 : Option Nat) (x1 : Option Nat) : Option ((Option Nat ⊕ Nat) × St) := drf x0 fun a1 => gd (isRd s a1) <| drf x0 fun a4 => gd (isRd s a4) <| drf (sr s a1 0) fun a7 => gd (isK s a7 102) <| gd (inb (si s a4 3) (sk s a7).2) <| nam ((((si s a7 (si s a4 3).toNatClampNeg)).toUInt32 % 65536).toInt32) fun y11 => drf x0 fun a13 => gd (isRd s a13) <| bnd (F_X6_next s a13) fun _ s17 => gd (okN s17 3) <| nam (newO s17 (12, 0) 3) fun s20 => drf x0 fun a22 => gd (isRd s20 a22) <| bnx (F_sumR 12 s20 a22) (fun b28 s26 => some (.inr b28, s26)) <| fun r25 s26 => bnd (F_X15_init s26 (sn s17) y11 x1 r25) fun _ s30 => some (.inl (some (sn s17)), s30)
set_option maxHeartbeats 4000000 in
theorem w_X6_positive_80 {X : CX} {E : EV} {a0 s' : St} {r : (Option Nat ⊕ Nat)} {recT : St → Nat → Option ((Option Nat ⊕ Nat) × St)} {FR LO : Nat} (B : FX X E cX6_positive 3 (some (.object "RoseThrow$Test")) "RoseThrow$Reader" "positive" (sn a0) (ss a0) (FR + 1) (LO + 60)) (ht : ∀ x ∈ (xC X).exceptionTable.toList, False) (h0 : ∀ σ, eSk E σ) (hr : ∀ {s s' : St} {a : Nat} {r : Option Nat ⊕ Nat}, recT s a = some (r, s') → CTX (xL X) E yX6_test cX6_test 3 (some (.object "RoseThrow$Test")) FR LO [vr (some a)] s (oX (fun v => some (vr v)) 7 r) s') (hF : 200 ≤ FR) (hL : 12000 ≤ LO) (s : St) (x0 : Option Nat) (x1 : Option Nat) (h : F_X6_positive_80 recT  s x0 x1 = some (r, s')) : J X E (sn a0) (ss a0) 3 (QZ X E a0 (oX (fun v => some (vr v)) 7 r) s') s 80 [(0, vr x0), (1, vr x1)] [] := by
  unfold F_X6_positive_80 at h
  refine r_aload_n (j := 0) B dX6_positive_80 rfl rfl ?_
  obtain ⟨a1, ea2, h⟩ := drf_e h
  obtain ⟨hg3, h⟩ := gd_e h
  refine gRd (k := 0) B (vr (sr s a1 0)) ea2 (fun _ => isRd_e hg3) rfl q707 q707 rfl rfl rfl rfl dX6_positive_81 ?_
  refine r_aload_n (j := 0) B dX6_positive_84 rfl rfl ?_
  obtain ⟨a4, ea5, h⟩ := drf_e h
  obtain ⟨hg6, h⟩ := gd_e h
  refine gRd (k := 3) B (vi (si s a4 3)) ea5 (fun _ => isRd_e hg6) rfl q710 q710 rfl rfl rfl rfl dX6_positive_85 ?_
  obtain ⟨a7, ea8, h⟩ := drf_e h
  obtain ⟨hg9, h⟩ := gd_e h
  obtain ⟨hg10, h⟩ := gd_e h
  refine r_bald B ea8 (fun _ => isK_a hg9) hg10 dX6_positive_88 ?_
  refine r_i2c B dX6_positive_89 ?_
  obtain ⟨y11, e12, h⟩ := nam_e h
  refine r_topi e12 ?_
  refine r_istore_n (L' := [(0, vr x0), (1, vr x1), (2, vi y11)]) B dX6_positive_90 rfl (by decide) rfl rfl rfl ?_
  refine r_aload_n (j := 0) B dX6_positive_91 rfl rfl ?_
  obtain ⟨a13, ea14, h⟩ := drf_e h
  obtain ⟨hg15, h⟩ := gd_e h
  obtain ⟨r16, s17, hc18, h⟩ := bnd_e h
  refine r_callV0 (As := []) (rest := []) B rfl ea14 EX.same (c_X6_next B.ge h0 hc18) (cw_X6_next (Nat.ble_eq.mpr (by omega)) (Nat.ble_eq.mpr (by omega))) (fun _ => (isRd_e hg15).elim (fun e => RV.of 6 e rfl rfl q745) (fun e => RV.of 17 e rfl rfl q746)) q742 q743 rfl dX6_positive_92 ?_
  obtain ⟨hg19, h⟩ := gd_e h
  obtain ⟨s20, e21, h⟩ := nam_e h
  refine r_new B e21 hg19 (c := 12) rfl (by decide) rfl in_X15 tyX15_ok rfl q1037 q1038 q151 (fun _ => h0 _) dX6_positive_95 ?_
  refine r_dup B dX6_positive_98 rfl ?_
  refine r_iload_n (j := 2) B dX6_positive_99 rfl rfl ?_
  refine r_aload_n (j := 1) B dX6_positive_100 rfl rfl ?_
  refine r_aload_n (j := 0) B dX6_positive_101 rfl rfl ?_
  obtain ⟨a22, ea23, h⟩ := drf_e h
  obtain ⟨hg24, h⟩ := gd_e h
  rcases bnx_e h with ⟨b28, s26, hc27, h⟩ | ⟨r25, s26, hc27, h⟩
  · cases h
    refine r_xVx (As := []) (rest := [vr x1, vi y11, vr (some (sn s17)), vr (some (sn s17))]) B rfl ea23 EX.same (c_sumR B.ge h0 12 _ _ _ _ hc27) ⟨q869, q139, ⟨by decide +kernel, by decide +kernel, by decide +kernel⟩, by omega, by omega⟩ (fun _ => (isRd_e hg24).elim (fun e => RV.of 6 e rfl rfl q2256) (fun e => RV.of 17 e rfl rfl q2257)) q890 q868 rfl dX6_positive_102 (fun hk => ?_)
    exact r_out B ht hk rfl (by decide) rfl
  refine r_xVn (As := []) (rest := [vr x1, vi y11, vr (some (sn s17)), vr (some (sn s17))]) B rfl ea23 EX.same (c_sumR B.ge h0 12 _ _ _ _ hc27) ⟨q869, q139, ⟨by decide +kernel, by decide +kernel, by decide +kernel⟩, by omega, by omega⟩ (fun _ => (isRd_e hg24).elim (fun e => RV.of 6 e rfl rfl q2256) (fun e => RV.of 17 e rfl rfl q2257)) q890 q868 rfl dX6_positive_102 ?_
  obtain ⟨r29, s30, hc31, h⟩ := bnd_e h
  refine r_callI (As := [vi y11, vr x1, vr r25]) (rest := [vr (some (sn s17))]) B rfl rfl EX.same (c_X15_init B.ge h0 hc31) (cw_X15_init (Nat.ble_eq.mpr (by omega)) (Nat.ble_eq.mpr (by omega))) rfl q1039 q1040 rfl dX6_positive_105 ?_
  cases h
  exact r_ret (r_aret (Or.inl ⟨_, rfl⟩) B dX6_positive_108 rfl)
set_option maxHeartbeats 4000000 in
noncomputable def F_X6_positive (recT : St → Nat → Option ((Option Nat ⊕ Nat) × St)) (s : St) (this : Nat)  : Option ((Option Nat ⊕ Nat) × St) := gd (isRd s this) <| bnd (F_X6_is s this (some 1000000019)) fun r2 s3 => if r2 = 0 then (gd (isRd s3 this) <| bnx (F_sumR 12 s3 this) (fun b10 s8 => some (.inr b10, s8)) <| fun r7 s8 => gd (isRd s8 this) <| bnd (F_X6_is s8 this (some 1000000021)) fun r12 s13 => if r12 = 0 then (gd (isRd s13 this) <| bnd (F_X6_is s13 this (some 1000000022)) fun r17 s18 => if r17 = 0 then (gd (isRd s18 this) <| bnd (F_X6_is s18 this (some 1000000023)) fun r22 s23 => if r22 = 0 then (gd (okN s23 7) <| nam (newO s23 (7, 0) 7) fun s27 => gd (isRd s27 this) <| bnd (F_X8_init s27 (sn s23) (si s27 this 3)) fun _ s31 => gd (isK s31 (sn s23) 7) <| some (.inr (sn s23), s31)) else (F_X6_positive_80 recT s23 (some this) r7)) else (F_X6_positive_80 recT s18 (some this) r7)) else (F_X6_positive_80 recT s13 (some this) r7)) else (gd (isRd s3 this) <| bnx (F_X6_opens s3 this) (fun b38 s36 => some (.inr b38, s36)) <| fun _ s36 => gd (isRd s36 this) <| bnx (recT s36 this) (fun b43 s41 => some (.inr b43, s41)) <| fun r40 s41 => gd (isRd s41 this) <| bnx (F_X6_need s41 this (some 1000000020)) (fun b48 s46 => some (.inr b48, s46)) <| fun _ s46 => gd (isRd s46 this) <| gd (isRd s46 this) <| nam (setI s46 this 6 ((si s46 this 6) - (1 : Int32))) fun s51 => some (.inl r40, s51))
set_option maxHeartbeats 4000000 in
theorem c_X6_positive {l : Launch} {E : EV} (hE : GE E) (h0 : ∀ σ, eSk E σ) {recT : St → Nat → Option ((Option Nat ⊕ Nat) × St)} {FR LO : Nat} (hr : ∀ {s s' : St} {a : Nat} {r : Option Nat ⊕ Nat}, recT s a = some (r, s') → CTX l E yX6_test cX6_test 3 (some (.object "RoseThrow$Test")) FR LO [vr (some a)] s (oX (fun v => some (vr v)) 7 r) s') (hF : 200 ≤ FR) (hL : 12000 ≤ LO) {s s' : St} {r : (Option Nat ⊕ Nat)} {this : Nat}  (h : F_X6_positive recT s this = some (r, s')) : CTX l E yX6_positive cX6_positive 3 (some (.object "RoseThrow$Test")) (FR + 1) (LO + 60) [vr (some this)] s (oX (fun v => some (vr v)) 7 r) s' := by
  refine CTX.start hE (by decide) rfl [(0, vr (some this))] rfl (fun X hX B ht => ?_)
  subst hX
  have B : FX X E cX6_positive 3 (some (.object "RoseThrow$Test")) "RoseThrow$Reader" "positive" (sn s) (ss s) (FR + 1) (LO + 60) := B
  unfold F_X6_positive at h
  refine r_aload_n (j := 0) B dX6_positive_0 rfl rfl ?_
  refine r_ldcS 19 (o := some 1000000019) B rfl rfl dX6_positive_1 ?_
  obtain ⟨hg1, h⟩ := gd_e h
  obtain ⟨r2, s3, hc4, h⟩ := bnd_e h
  refine r_callVv (As := [vr (some 1000000019)]) (rest := []) B rfl rfl EX.same (c_X6_is B.ge h0 hc4) (cw_X6_is (Nat.ble_eq.mpr (by omega)) (Nat.ble_eq.mpr (by omega))) (fun _ => (isRd_e hg1).elim (fun e => RV.of 6 e rfl rfl q2253) (fun e => RV.of 17 e rfl rfl q2254)) q883 q765 rfl dX6_positive_3 ?_
  refine r_if_eq (tgt := 36) B dX6_positive_6 (by decide) (fun cn5 => ?_) (fun cn5 => ?_)
  · have h := ot cn5 h
    refine r_aload_n (j := 0) B dX6_positive_36 rfl rfl ?_
    obtain ⟨hg6, h⟩ := gd_e h
    rcases bnx_e h with ⟨b10, s8, hc9, h⟩ | ⟨r7, s8, hc9, h⟩
    · cases h
      refine r_xVx (As := []) (rest := []) B rfl rfl EX.same (c_sumR B.ge h0 12 _ _ _ _ hc9) ⟨q869, q139, ⟨by decide +kernel, by decide +kernel, by decide +kernel⟩, by omega, by omega⟩ (fun _ => (isRd_e hg6).elim (fun e => RV.of 6 e rfl rfl q2256) (fun e => RV.of 17 e rfl rfl q2257)) q890 q868 rfl dX6_positive_37 (fun hk => ?_)
      exact r_out B ht hk rfl (by decide) rfl
    refine r_xVn (As := []) (rest := []) B rfl rfl EX.same (c_sumR B.ge h0 12 _ _ _ _ hc9) ⟨q869, q139, ⟨by decide +kernel, by decide +kernel, by decide +kernel⟩, by omega, by omega⟩ (fun _ => (isRd_e hg6).elim (fun e => RV.of 6 e rfl rfl q2256) (fun e => RV.of 17 e rfl rfl q2257)) q890 q868 rfl dX6_positive_37 ?_
    refine r_astore_n (L' := [(0, vr (some this)), (1, vr r7)]) B dX6_positive_40 rfl (by decide) rfl rfl rfl ?_
    refine r_aload_n (j := 0) B dX6_positive_41 rfl rfl ?_
    refine r_ldcS 21 (o := some 1000000021) B rfl rfl dX6_positive_42 ?_
    obtain ⟨hg11, h⟩ := gd_e h
    obtain ⟨r12, s13, hc14, h⟩ := bnd_e h
    refine r_callVv (As := [vr (some 1000000021)]) (rest := []) B rfl rfl EX.same (c_X6_is B.ge h0 hc14) (cw_X6_is (Nat.ble_eq.mpr (by omega)) (Nat.ble_eq.mpr (by omega))) (fun _ => (isRd_e hg11).elim (fun e => RV.of 6 e rfl rfl q2253) (fun e => RV.of 17 e rfl rfl q2254)) q883 q765 rfl dX6_positive_44 ?_
    refine r_if_ne (tgt := 80) B dX6_positive_47 (by decide) (fun cn15 => ?_) (fun cn15 => ?_)
    · have h := of cn15 h
      exact w_X6_positive_80 B ht h0 hr hF hL s13 (some this) r7 h
    · have h := ot cn15 h
      refine r_aload_n (j := 0) B dX6_positive_50 rfl rfl ?_
      refine r_ldcS 22 (o := some 1000000022) B rfl rfl dX6_positive_51 ?_
      obtain ⟨hg16, h⟩ := gd_e h
      obtain ⟨r17, s18, hc19, h⟩ := bnd_e h
      refine r_callVv (As := [vr (some 1000000022)]) (rest := []) B rfl rfl EX.same (c_X6_is B.ge h0 hc19) (cw_X6_is (Nat.ble_eq.mpr (by omega)) (Nat.ble_eq.mpr (by omega))) (fun _ => (isRd_e hg16).elim (fun e => RV.of 6 e rfl rfl q2253) (fun e => RV.of 17 e rfl rfl q2254)) q883 q765 rfl dX6_positive_53 ?_
      refine r_if_ne (tgt := 80) B dX6_positive_56 (by decide) (fun cn20 => ?_) (fun cn20 => ?_)
      · have h := of cn20 h
        exact w_X6_positive_80 B ht h0 hr hF hL s18 (some this) r7 h
      · have h := ot cn20 h
        refine r_aload_n (j := 0) B dX6_positive_59 rfl rfl ?_
        refine r_ldcS 23 (o := some 1000000023) B rfl rfl dX6_positive_60 ?_
        obtain ⟨hg21, h⟩ := gd_e h
        obtain ⟨r22, s23, hc24, h⟩ := bnd_e h
        refine r_callVv (As := [vr (some 1000000023)]) (rest := []) B rfl rfl EX.same (c_X6_is B.ge h0 hc24) (cw_X6_is (Nat.ble_eq.mpr (by omega)) (Nat.ble_eq.mpr (by omega))) (fun _ => (isRd_e hg21).elim (fun e => RV.of 6 e rfl rfl q2253) (fun e => RV.of 17 e rfl rfl q2254)) q883 q765 rfl dX6_positive_62 ?_
        refine r_if_ne (tgt := 80) B dX6_positive_65 (by decide) (fun cn25 => ?_) (fun cn25 => ?_)
        · have h := of cn25 h
          exact w_X6_positive_80 B ht h0 hr hF hL s23 (some this) r7 h
        · have h := ot cn25 h
          obtain ⟨hg26, h⟩ := gd_e h
          obtain ⟨s27, e28, h⟩ := nam_e h
          refine r_new B e28 hg26 (c := 7) rfl (by decide) rfl in_X8 tyX8_ok rfl q822 q823 q144 (fun _ => h0 _) dX6_positive_68 ?_
          refine r_dup B dX6_positive_71 rfl ?_
          refine r_aload_n (j := 0) B dX6_positive_72 rfl rfl ?_
          obtain ⟨hg29, h⟩ := gd_e h
          refine gRd (k := 3) B (vi (si s27 this 3)) rfl (fun _ => isRd_e hg29) rfl q710 q710 rfl rfl rfl rfl dX6_positive_73 ?_
          obtain ⟨r30, s31, hc32, h⟩ := bnd_e h
          refine r_callI (As := [vi (si s27 this 3)]) (rest := [vr (some (sn s23))]) B rfl rfl EX.same (c_X8_init B.ge h0 hc32) (cw_X8_init (Nat.ble_eq.mpr (by omega)) (Nat.ble_eq.mpr (by omega))) rfl q831 q832 rfl dX6_positive_76 ?_
          obtain ⟨hg33, h⟩ := gd_e h
          cases h
          exact r_athrow B rfl dX6_positive_79 (r_out B ht (isK_e hg33) rfl (by decide) rfl)
  · have h := of cn5 h
    refine r_aload_n (j := 0) B dX6_positive_9 rfl rfl ?_
    obtain ⟨hg34, h⟩ := gd_e h
    rcases bnx_e h with ⟨b38, s36, hc37, h⟩ | ⟨r35, s36, hc37, h⟩
    · cases h
      refine r_xVx (As := []) (rest := []) B rfl rfl EX.same (c_X6_opens B.ge h0 hc37) (cw_X6_opens (Nat.ble_eq.mpr (by omega)) (Nat.ble_eq.mpr (by omega))) (fun _ => (isRd_e hg34).elim (fun e => RV.of 6 e rfl rfl q887) (fun e => RV.of 17 e rfl rfl q888)) q884 q885 rfl dX6_positive_10 (fun hk => ?_)
      exact r_out B ht hk rfl (by decide) rfl
    refine r_xV0 (As := []) (rest := []) B rfl rfl EX.same (c_X6_opens B.ge h0 hc37) (cw_X6_opens (Nat.ble_eq.mpr (by omega)) (Nat.ble_eq.mpr (by omega))) (fun _ => (isRd_e hg34).elim (fun e => RV.of 6 e rfl rfl q887) (fun e => RV.of 17 e rfl rfl q888)) q884 q885 rfl dX6_positive_10 ?_
    refine r_aload_n (j := 0) B dX6_positive_13 rfl rfl ?_
    obtain ⟨hg39, h⟩ := gd_e h
    rcases bnx_e h with ⟨b43, s41, hc42, h⟩ | ⟨r40, s41, hc42, h⟩
    · cases h
      refine r_xVx (As := []) (rest := []) B rfl rfl EX.same (hr hc42) ⟨q1011, q139, ⟨by decide +kernel, by decide +kernel, by decide +kernel⟩, by omega, by omega⟩ (fun _ => (isRd_e hg39).elim (fun e => RV.of 6 e rfl rfl q2259) (fun e => RV.of 17 e rfl rfl q2260)) q1032 q1010 rfl dX6_positive_14 (fun hk => ?_)
      exact r_out B ht hk rfl (by decide) rfl
    refine r_xVn (As := []) (rest := []) B rfl rfl EX.same (hr hc42) ⟨q1011, q139, ⟨by decide +kernel, by decide +kernel, by decide +kernel⟩, by omega, by omega⟩ (fun _ => (isRd_e hg39).elim (fun e => RV.of 6 e rfl rfl q2259) (fun e => RV.of 17 e rfl rfl q2260)) q1032 q1010 rfl dX6_positive_14 ?_
    refine r_astore_n (L' := [(0, vr (some this)), (1, vr r40)]) B dX6_positive_17 rfl (by decide) rfl rfl rfl ?_
    refine r_aload_n (j := 0) B dX6_positive_18 rfl rfl ?_
    refine r_ldcS 20 (o := some 1000000020) B rfl rfl dX6_positive_19 ?_
    obtain ⟨hg44, h⟩ := gd_e h
    rcases bnx_e h with ⟨b48, s46, hc47, h⟩ | ⟨r45, s46, hc47, h⟩
    · cases h
      refine r_xVx (As := [vr (some 1000000020)]) (rest := []) B rfl rfl EX.same (c_X6_need B.ge h0 hc47) (cw_X6_need (Nat.ble_eq.mpr (by omega)) (Nat.ble_eq.mpr (by omega))) (fun _ => (isRd_e hg44).elim (fun e => RV.of 6 e rfl rfl q895) (fun e => RV.of 17 e rfl rfl q896)) q892 q893 rfl dX6_positive_21 (fun hk => ?_)
      exact r_out B ht hk rfl (by decide) rfl
    refine r_xV0 (As := [vr (some 1000000020)]) (rest := []) B rfl rfl EX.same (c_X6_need B.ge h0 hc47) (cw_X6_need (Nat.ble_eq.mpr (by omega)) (Nat.ble_eq.mpr (by omega))) (fun _ => (isRd_e hg44).elim (fun e => RV.of 6 e rfl rfl q895) (fun e => RV.of 17 e rfl rfl q896)) q892 q893 rfl dX6_positive_21 ?_
    refine r_aload_n (j := 0) B dX6_positive_24 rfl rfl ?_
    refine r_dup B dX6_positive_25 rfl ?_
    obtain ⟨hg49, h⟩ := gd_e h
    refine gRd (k := 6) B (vi (si s46 this 6)) rfl (fun _ => isRd_e hg49) rfl q713 q713 rfl rfl rfl rfl dX6_positive_26 ?_
    refine r_iconst (v := 1) B dX6_positive_29 (by decide) ?_
    refine r_isub B dX6_positive_30 ?_
    obtain ⟨hg50, h⟩ := gd_e h
    obtain ⟨s51, e52, h⟩ := nam_e h
    refine pIRd (k := 6) B e52 rfl (fun _ => isRd_e hg50) rfl q713 q713 rfl rfl rfl rfl (fun _ _ _ => rfl) (fun _ _ _ => rfl) rfl rfl dX6_positive_31 ?_
    refine r_aload_n (j := 1) B dX6_positive_34 rfl rfl ?_
    cases h
    exact r_ret (r_aret (Or.inl ⟨_, rfl⟩) B dX6_positive_35 rfl)
set_option maxHeartbeats 4000000 in
theorem cw_X6_positive {FR LO : Nat} {X : CX} {fr lo : Nat} (h1 : Nat.ble ((FR + 1) + 1) fr = true) (h2 : Nat.ble (22 + (LO + 60)) lo = true) : CW X fr lo yX6_positive cX6_positive 3 (some (.object "RoseThrow$Test")) (FR + 1) (LO + 60) 0 := ⟨q1030, q139, ⟨by decide +kernel, by decide +kernel, by decide +kernel⟩, Nat.le_of_ble_eq_true h1, Nat.le_of_ble_eq_true h2⟩

set_option maxHeartbeats 4000000 in
noncomputable def F_X16_init (s : St) (this : Nat) (p0 : Option Nat) : Option (Unit × St) := bnd (F_X14_init s this) fun _ s2 => gd (isK s2 this 13) <| nam (setR s2 this 0 p0) fun s5 => some ((), s5)
set_option maxHeartbeats 4000000 in
theorem c_X16_init {l : Launch} {E : EV} (hE : GE E) (h0 : ∀ σ, eSk E σ) {s s' : St} {r : Unit} {this : Nat} {p0 : Option Nat} (h : F_X16_init  s this p0 = some (r, s')) : CT l E yX16_init cX16_init 2 none 2 40 [vr (some this), vr p0] s none s' := by
  refine CT.start hE (by decide) rfl [(0, vr (some this)), (1, vr p0)] rfl (fun X hX B => ?_)
  skip
  have B : FX X E cX16_init 2 none "RoseThrow$Not" "<init>" (sn s) (ss s) 2 40 := B
  unfold F_X16_init at h
  refine r_aload_n (j := 0) B dX16_init_0 rfl rfl ?_
  obtain ⟨r1, s2, hc3, h⟩ := bnd_e h
  refine r_callIN (As := []) (rest := []) B rfl rfl EX.same (c_X14_init B.ge h0 hc3) (cw_X14_init rfl rfl) rfl (lw_n q1061 rfl) q1043 rfl dX16_init_1 ?_
  refine r_aload_n (j := 0) B dX16_init_4 rfl rfl ?_
  refine r_aload_n (j := 1) B dX16_init_5 rfl rfl ?_
  obtain ⟨hg4, h⟩ := gd_e h
  obtain ⟨s5, e6, h⟩ := nam_e h
  refine pR13F (k := 0) B e6 rfl (fun _ => isK_e hg4) rfl q1062 rfl rfl rfl rfl (Or.inl ⟨_, rfl⟩) (fun _ => h0 _) dX16_init_6 ?_
  exact r_vret B dX16_init_9 h
set_option maxHeartbeats 4000000 in
theorem cw_X16_init {X : CX} {fr lo : Nat} (h1 : Nat.ble (2 + 1) fr = true) (h2 : Nat.ble (21 + 40) lo = true) : CW X fr lo yX16_init cX16_init 2 none 2 40 1 := ⟨q1060, q152, ⟨by decide +kernel, by decide +kernel, by decide +kernel⟩, Nat.le_of_ble_eq_true h1, Nat.le_of_ble_eq_true h2⟩

set_option maxHeartbeats 4000000 in
noncomputable def F_X6_plain_2 (recT : St → Nat → Option ((Option Nat ⊕ Nat) × St)) : Nat → St → Option Nat → Int32 → Option ((Option Nat ⊕ Nat) × St)
  | 0 => fun _ _ _ => none
  | n + 1 => fun s x0 x1 => drf x0 fun a1 => gd (isRd s a1) <| bnd (F_X6_takes s a1 (some 1000000018)) fun r4 s5 => if r4 = 0 then (drf x0 fun a8 => gd (isRd s5 a8) <| bnx (F_X6_positive recT s5 a8) (fun b14 s12 => some (.inr b14, s12)) <| fun r11 s12 => if x1 = 0 then (some (.inl r11, s12)) else (gd (okN s12 1) <| nam (newO s12 (13, 0) 1) fun s17 => bnd (F_X16_init s17 (sn s12) r11) fun _ s20 => some (.inl (some (sn s12)), s20))) else (if x1 = 0 then (F_X6_plain_2 recT n s5 x0 (1 : Int32)) else (F_X6_plain_2 recT n s5 x0 (0 : Int32)))
set_option maxHeartbeats 4000000 in
theorem w_X6_plain_2 {X : CX} {E : EV} {a0 s' : St} {r : (Option Nat ⊕ Nat)} {recT : St → Nat → Option ((Option Nat ⊕ Nat) × St)} {FR LO : Nat} (B : FX X E cX6_plain 3 (some (.object "RoseThrow$Test")) "RoseThrow$Reader" "plain" (sn a0) (ss a0) (FR + 2) (LO + 120)) (ht : ∀ x ∈ (xC X).exceptionTable.toList, False) (h0 : ∀ σ, eSk E σ) (hr : ∀ {s s' : St} {a : Nat} {r : Option Nat ⊕ Nat}, recT s a = some (r, s') → CTX (xL X) E yX6_test cX6_test 3 (some (.object "RoseThrow$Test")) FR LO [vr (some a)] s (oX (fun v => some (vr v)) 7 r) s') (hF : 200 ≤ FR) (hL : 12000 ≤ LO) : ∀ (n : Nat) (s : St) (x0 : Option Nat) (x1 : Int32), F_X6_plain_2 recT  n s x0 x1 = some (r, s') → J X E (sn a0) (ss a0) 3 (QZ X E a0 (oX (fun v => some (vr v)) 7 r) s') s 2 [(0, vr x0), (1, vi x1)] [] := by
  intro n
  induction n with
  | zero => intro s x0 x1 h; exact absurd (show (none : Option ((Option Nat ⊕ Nat) × St)) = _ from h) (by simp)
  | succ n ih =>
    intro s x0 x1 h
    rw [F_X6_plain_2] at h
    refine r_aload_n (j := 0) B dX6_plain_2 rfl rfl ?_
    refine r_ldcS 18 (o := some 1000000018) B rfl rfl dX6_plain_3 ?_
    obtain ⟨a1, ea2, h⟩ := drf_e h
    obtain ⟨hg3, h⟩ := gd_e h
    obtain ⟨r4, s5, hc6, h⟩ := bnd_e h
    refine r_callVv (As := [vr (some 1000000018)]) (rest := []) B rfl ea2 EX.same (c_X6_takes B.ge h0 hc6) (cw_X6_takes (Nat.ble_eq.mpr (by omega)) (Nat.ble_eq.mpr (by omega))) (fun _ => (isRd_e hg3).elim (fun e => RV.of 6 e rfl rfl q901) (fun e => RV.of 17 e rfl rfl q902)) q898 q899 rfl dX6_plain_5 ?_
    refine r_if_eq (tgt := 24) B dX6_plain_8 (by decide) (fun cn7 => ?_) (fun cn7 => ?_)
    · have h := ot cn7 h
      refine r_aload_n (j := 0) B dX6_plain_24 rfl rfl ?_
      obtain ⟨a8, ea9, h⟩ := drf_e h
      obtain ⟨hg10, h⟩ := gd_e h
      rcases bnx_e h with ⟨b14, s12, hc13, h⟩ | ⟨r11, s12, hc13, h⟩
      · cases h
        refine r_xVx (As := []) (rest := []) B rfl ea9 EX.same (c_X6_positive B.ge h0 hr hF hL hc13) (cw_X6_positive (Nat.ble_eq.mpr (by omega)) (Nat.ble_eq.mpr (by omega))) (fun _ => (isRd_e hg10).elim (fun e => RV.of 6 e rfl rfl q1028) (fun e => RV.of 17 e rfl rfl q1029)) q1025 q1026 rfl dX6_plain_25 (fun hk => ?_)
        exact r_out B ht hk rfl (by decide) rfl
      refine r_xVn (As := []) (rest := []) B rfl ea9 EX.same (c_X6_positive B.ge h0 hr hF hL hc13) (cw_X6_positive (Nat.ble_eq.mpr (by omega)) (Nat.ble_eq.mpr (by omega))) (fun _ => (isRd_e hg10).elim (fun e => RV.of 6 e rfl rfl q1028) (fun e => RV.of 17 e rfl rfl q1029)) q1025 q1026 rfl dX6_plain_25 ?_
      refine r_astore_n (L' := [(0, vr x0), (1, vi x1), (2, vr r11)]) B dX6_plain_28 rfl (by decide) rfl rfl rfl ?_
      refine r_iload_n (j := 1) B dX6_plain_29 rfl rfl ?_
      refine r_if_eq (tgt := 44) B dX6_plain_30 (by decide) (fun cn15 => ?_) (fun cn15 => ?_)
      · have h := ot cn15 h
        refine r_aload_n (j := 2) B dX6_plain_44 rfl rfl ?_
        cases h
        exact r_ret (r_aret (Or.inl ⟨_, rfl⟩) B dX6_plain_45 rfl)
      · have h := of cn15 h
        obtain ⟨hg16, h⟩ := gd_e h
        obtain ⟨s17, e18, h⟩ := nam_e h
        refine r_new B e18 hg16 (c := 13) rfl (by decide) rfl in_X16 tyX16_ok rfl q1056 q1057 q152 (fun _ => h0 _) dX6_plain_33 ?_
        refine r_dup B dX6_plain_36 rfl ?_
        refine r_aload_n (j := 2) B dX6_plain_37 rfl rfl ?_
        obtain ⟨r19, s20, hc21, h⟩ := bnd_e h
        refine r_callI (As := [vr r11]) (rest := [vr (some (sn s12))]) B rfl rfl EX.same (c_X16_init B.ge h0 hc21) (cw_X16_init (Nat.ble_eq.mpr (by omega)) (Nat.ble_eq.mpr (by omega))) rfl q1058 q1059 rfl dX6_plain_38 ?_
        refine r_goto (tgt := 45) B dX6_plain_41 (by decide) ?_
        cases h
        exact r_ret (r_aret (Or.inl ⟨_, rfl⟩) B dX6_plain_45 rfl)
    · have h := of cn7 h
      refine r_iload_n (j := 1) B dX6_plain_11 rfl rfl ?_
      refine r_if_ne (tgt := 19) B dX6_plain_12 (by decide) (fun cn22 => ?_) (fun cn22 => ?_)
      · have h := of cn22 h
        refine r_iconst (v := 0) B dX6_plain_19 (by decide) ?_
        refine r_istore_n (L' := [(0, vr x0), (1, vi (0 : Int32))]) B dX6_plain_20 rfl (by decide) rfl rfl rfl ?_
        refine r_goto (tgt := 2) B dX6_plain_21 (by decide) ?_
        exact ih s5 x0 (0 : Int32) h
      · have h := ot cn22 h
        refine r_iconst (v := 1) B dX6_plain_15 (by decide) ?_
        refine r_goto (tgt := 20) B dX6_plain_16 (by decide) ?_
        refine r_istore_n (L' := [(0, vr x0), (1, vi (1 : Int32))]) B dX6_plain_20 rfl (by decide) rfl rfl rfl ?_
        refine r_goto (tgt := 2) B dX6_plain_21 (by decide) ?_
        exact ih s5 x0 (1 : Int32) h
set_option maxHeartbeats 4000000 in
noncomputable def F_X6_plain (recT : St → Nat → Option ((Option Nat ⊕ Nat) × St)) (s : St) (this : Nat)  : Option ((Option Nat ⊕ Nat) × St) := F_X6_plain_2 recT FU s (some this) (0 : Int32)
set_option maxHeartbeats 4000000 in
theorem c_X6_plain {l : Launch} {E : EV} (hE : GE E) (h0 : ∀ σ, eSk E σ) {recT : St → Nat → Option ((Option Nat ⊕ Nat) × St)} {FR LO : Nat} (hr : ∀ {s s' : St} {a : Nat} {r : Option Nat ⊕ Nat}, recT s a = some (r, s') → CTX l E yX6_test cX6_test 3 (some (.object "RoseThrow$Test")) FR LO [vr (some a)] s (oX (fun v => some (vr v)) 7 r) s') (hF : 200 ≤ FR) (hL : 12000 ≤ LO) {s s' : St} {r : (Option Nat ⊕ Nat)} {this : Nat}  (h : F_X6_plain recT s this = some (r, s')) : CTX l E yX6_plain cX6_plain 3 (some (.object "RoseThrow$Test")) (FR + 2) (LO + 120) [vr (some this)] s (oX (fun v => some (vr v)) 7 r) s' := by
  refine CTX.start hE (by decide) rfl [(0, vr (some this))] rfl (fun X hX B ht => ?_)
  subst hX
  have B : FX X E cX6_plain 3 (some (.object "RoseThrow$Test")) "RoseThrow$Reader" "plain" (sn s) (ss s) (FR + 2) (LO + 120) := B
  unfold F_X6_plain at h
  refine r_iconst (v := 0) B dX6_plain_0 (by decide) ?_
  refine r_istore_n (L' := [(0, vr (some this)), (1, vi (0 : Int32))]) B dX6_plain_1 rfl (by decide) rfl rfl rfl ?_
  exact w_X6_plain_2 B ht h0 hr hF hL FU s (some this) (0 : Int32) h
set_option maxHeartbeats 4000000 in
theorem cw_X6_plain {FR LO : Nat} {X : CX} {fr lo : Nat} (h1 : Nat.ble ((FR + 2) + 1) fr = true) (h2 : Nat.ble (22 + (LO + 120)) lo = true) : CW X fr lo yX6_plain cX6_plain 3 (some (.object "RoseThrow$Test")) (FR + 2) (LO + 120) 0 := ⟨q1023, q139, ⟨by decide +kernel, by decide +kernel, by decide +kernel⟩, Nat.le_of_ble_eq_true h1, Nat.le_of_ble_eq_true h2⟩

set_option maxHeartbeats 4000000 in
noncomputable def F_X17_init (s : St) (this : Nat) (p0 : Int32) : Option (Unit × St) := bnd (F_X14_init s this) fun _ s2 => gd (okN s2 3) <| nam (newO s2 (18, 0) 3) fun s5 => bnd (F_J2_init s5 (sn s2) (2 : Int32)) fun _ s8 => gd (isK s8 this 14) <| nam (setR s8 this 1 (some (sn s2))) fun s11 => gd (isK s11 this 14) <| gd (fits .boolean (.int p0)) <| nam (setI s11 this 0 p0) fun s15 => some ((), s15)
set_option maxHeartbeats 4000000 in
theorem c_X17_init {l : Launch} {E : EV} (hE : GE E) (h0 : ∀ σ, eSk E σ) {s s' : St} {r : Unit} {this : Nat} {p0 : Int32} (h : F_X17_init  s this p0 = some (r, s')) : CT l E yX17_init cX17_init 2 none 4 81 [vr (some this), vi p0] s none s' := by
  refine CT.start hE (by decide) rfl [(0, vr (some this)), (1, vi p0)] rfl (fun X hX B => ?_)
  skip
  have B : FX X E cX17_init 2 none "RoseThrow$Several" "<init>" (sn s) (ss s) 4 81 := B
  unfold F_X17_init at h
  refine r_aload_n (j := 0) B dX17_init_0 rfl rfl ?_
  obtain ⟨r1, s2, hc3, h⟩ := bnd_e h
  refine r_callIN (As := []) (rest := []) B rfl rfl EX.same (c_X14_init B.ge h0 hc3) (cw_X14_init rfl rfl) rfl (lw_n q1072 rfl) q1043 rfl dX17_init_1 ?_
  refine r_aload_n (j := 0) B dX17_init_4 rfl rfl ?_
  obtain ⟨hg4, h⟩ := gd_e h
  obtain ⟨s5, e6, h⟩ := nam_e h
  refine r_new B e6 hg4 (c := 18) rfl (by decide) rfl in_J2 tyJ2_ok rfl q1073 q177 q130 (fun _ => h0 _) dX17_init_5 ?_
  refine r_dup B dX17_init_8 rfl ?_
  refine r_iconst (v := 2) B dX17_init_9 (by decide) ?_
  obtain ⟨r7, s8, hc9, h⟩ := bnd_e h
  refine r_callI (As := [vi (2 : Int32)]) (rest := [vr (some (sn s2)), vr (some this)]) B rfl rfl EX.same (c_J2_init B.ge h0 hc9) (cw_J2_init rfl rfl) rfl q1074 q179 rfl dX17_init_10 ?_
  obtain ⟨hg10, h⟩ := gd_e h
  obtain ⟨s11, e12, h⟩ := nam_e h
  refine pR14F (k := 1) B e12 rfl (fun _ => isK_e hg10) rfl q1076 rfl rfl rfl rfl (Or.inl ⟨_, rfl⟩) (fun _ => h0 _) dX17_init_13 ?_
  refine r_aload_n (j := 0) B dX17_init_16 rfl rfl ?_
  refine r_iload_n (j := 1) B dX17_init_17 rfl rfl ?_
  obtain ⟨hg13, h⟩ := gd_e h
  obtain ⟨hg14, h⟩ := gd_e h
  obtain ⟨s15, e16, h⟩ := nam_e h
  refine pI14F (k := 0) B e16 rfl (fun _ => isK_e hg13) rfl q1075 rfl rfl rfl rfl (fun _ _ _ => rfl) hg14 dX17_init_18 ?_
  exact r_vret B dX17_init_21 h
set_option maxHeartbeats 4000000 in
theorem cw_X17_init {X : CX} {fr lo : Nat} (h1 : Nat.ble (4 + 1) fr = true) (h2 : Nat.ble (21 + 81) lo = true) : CW X fr lo yX17_init cX17_init 2 none 4 81 1 := ⟨q1071, q153, ⟨by decide +kernel, by decide +kernel, by decide +kernel⟩, Nat.le_of_ble_eq_true h1, Nat.le_of_ble_eq_true h2⟩

set_option maxHeartbeats 4000000 in
noncomputable def F_X6_both_34 (recT : St → Nat → Option ((Option Nat ⊕ Nat) × St)) : Nat → St → Option Nat → Option Nat → Option ((Option Nat ⊕ Nat) × St)
  | 0 => fun _ _ _ => none
  | n + 1 => fun s x0 x2 => drf x0 fun a1 => gd (isRd s a1) <| bnd (F_X6_takes s a1 (some 1000000024)) fun r4 s5 => if r4 = 0 then (some (.inl x2, s5)) else (drf x2 fun a8 => gd (isK s5 a8 14) <| drf x0 fun a11 => gd (isRd s5 a11) <| bnx (F_X6_plain recT s5 a11) (fun b17 s15 => some (.inr b17, s15)) <| fun r14 s15 => drf (sr s5 a8 1) fun a18 => gd (isK s15 a18 18) <| bnd (F_J2_add s15 a18 r14) fun r21 s22 => F_X6_both_34 recT n s22 x0 x2)
set_option maxHeartbeats 4000000 in
theorem w_X6_both_34 {X : CX} {E : EV} {a0 s' : St} {r : (Option Nat ⊕ Nat)} {recT : St → Nat → Option ((Option Nat ⊕ Nat) × St)} {FR LO : Nat} (B : FX X E cX6_both 3 (some (.object "RoseThrow$Test")) "RoseThrow$Reader" "both" (sn a0) (ss a0) (FR + 3) (LO + 180)) (ht : ∀ x ∈ (xC X).exceptionTable.toList, False) (h0 : ∀ σ, eSk E σ) (hr : ∀ {s s' : St} {a : Nat} {r : Option Nat ⊕ Nat}, recT s a = some (r, s') → CTX (xL X) E yX6_test cX6_test 3 (some (.object "RoseThrow$Test")) FR LO [vr (some a)] s (oX (fun v => some (vr v)) 7 r) s') (hF : 200 ≤ FR) (hL : 12000 ≤ LO) : ∀ (n : Nat) (s : St) (x0 : Option Nat) (x2 : Option Nat), F_X6_both_34 recT  n s x0 x2 = some (r, s') → J X E (sn a0) (ss a0) 3 (QZ X E a0 (oX (fun v => some (vr v)) 7 r) s') s 34 [(0, vr x0), (2, vr x2)] [] := by
  intro n
  induction n with
  | zero => intro s x0 x2 h; exact absurd (show (none : Option ((Option Nat ⊕ Nat) × St)) = _ from h) (by simp)
  | succ n ih =>
    intro s x0 x2 h
    rw [F_X6_both_34] at h
    refine r_aload_n (j := 0) B dX6_both_34 rfl rfl ?_
    refine r_ldcS 24 (o := some 1000000024) B rfl rfl dX6_both_35 ?_
    obtain ⟨a1, ea2, h⟩ := drf_e h
    obtain ⟨hg3, h⟩ := gd_e h
    obtain ⟨r4, s5, hc6, h⟩ := bnd_e h
    refine r_callVv (As := [vr (some 1000000024)]) (rest := []) B rfl ea2 EX.same (c_X6_takes B.ge h0 hc6) (cw_X6_takes (Nat.ble_eq.mpr (by omega)) (Nat.ble_eq.mpr (by omega))) (fun _ => (isRd_e hg3).elim (fun e => RV.of 6 e rfl rfl q901) (fun e => RV.of 17 e rfl rfl q902)) q898 q899 rfl dX6_both_37 ?_
    refine r_if_eq (tgt := 58) B dX6_both_40 (by decide) (fun cn7 => ?_) (fun cn7 => ?_)
    · have h := ot cn7 h
      refine r_aload_n (j := 1) B dX6_both_58 rfl rfl ?_
      cases h
      exact r_ret (r_aret (Or.inl ⟨_, rfl⟩) B dX6_both_59 rfl)
    · have h := of cn7 h
      refine r_aload_n (j := 1) B dX6_both_43 rfl rfl ?_
      obtain ⟨a8, ea9, h⟩ := drf_e h
      obtain ⟨hg10, h⟩ := gd_e h
      refine g14N (k := 1) B (vr (sr s5 a8 1)) ea9 (fun _ => isK_e hg10) rfl (lw_n q1077 rfl) rfl (fun _ => rfl) dX6_both_44 ?_
      refine r_aload_n (j := 0) B dX6_both_47 rfl rfl ?_
      obtain ⟨a11, ea12, h⟩ := drf_e h
      obtain ⟨hg13, h⟩ := gd_e h
      rcases bnx_e h with ⟨b17, s15, hc16, h⟩ | ⟨r14, s15, hc16, h⟩
      · cases h
        refine r_xVx (As := []) (rest := [vr (sr s5 a8 1)]) B rfl ea12 EX.same (c_X6_plain B.ge h0 hr hF hL hc16) (cw_X6_plain (Nat.ble_eq.mpr (by omega)) (Nat.ble_eq.mpr (by omega))) (fun _ => (isRd_e hg13).elim (fun e => RV.of 6 e rfl rfl q1021) (fun e => RV.of 17 e rfl rfl q1022)) q1018 q1019 rfl dX6_both_48 (fun hk => ?_)
        exact r_out B ht hk rfl (by decide) rfl
      refine r_xVn (As := []) (rest := [vr (sr s5 a8 1)]) B rfl ea12 EX.same (c_X6_plain B.ge h0 hr hF hL hc16) (cw_X6_plain (Nat.ble_eq.mpr (by omega)) (Nat.ble_eq.mpr (by omega))) (fun _ => (isRd_e hg13).elim (fun e => RV.of 6 e rfl rfl q1021) (fun e => RV.of 17 e rfl rfl q1022)) q1018 q1019 rfl dX6_both_48 ?_
      obtain ⟨a18, ea19, h⟩ := drf_e h
      obtain ⟨hg20, h⟩ := gd_e h
      obtain ⟨r21, s22, hc23, h⟩ := bnd_e h
      refine r_callVv (As := [vr r14]) (rest := []) B rfl ea19 EX.same (c_J2_add B.ge h0 hc23) (cw_J2_add (Nat.ble_eq.mpr (by omega)) (Nat.ble_eq.mpr (by omega))) (fun z => RV.of 18 ((fun _ => isK_e hg20) z) rfl rfl q1085) q1083 q1084 rfl dX6_both_51 ?_
      refine r_pop B dX6_both_54 rfl ?_
      refine r_goto (tgt := 34) B dX6_both_55 (by decide) ?_
      exact ih s22 x0 x2 h
set_option maxHeartbeats 4000000 in
noncomputable def F_X6_both (recT : St → Nat → Option ((Option Nat ⊕ Nat) × St)) (s : St) (this : Nat)  : Option ((Option Nat ⊕ Nat) × St) := gd (isRd s this) <| bnx (F_X6_plain recT s this) (fun b5 s3 => some (.inr b5, s3)) <| fun r2 s3 => gd (isRd s3 this) <| bnd (F_X6_is s3 this (some 1000000024)) fun r7 s8 => if r7 = 0 then (some (.inl r2, s8)) else (gd (okN s8 2) <| nam (newO s8 (14, 0) 2) fun s12 => bnd (F_X17_init s12 (sn s8) (1 : Int32)) fun _ s15 => gd (isK s15 (sn s8) 14) <| drf (sr s15 (sn s8) 1) fun a18 => gd (isK s15 a18 18) <| bnd (F_J2_add s15 a18 r2) fun r21 s22 => F_X6_both_34 recT FU s22 (some this) (some (sn s8)))
set_option maxHeartbeats 4000000 in
theorem c_X6_both {l : Launch} {E : EV} (hE : GE E) (h0 : ∀ σ, eSk E σ) {recT : St → Nat → Option ((Option Nat ⊕ Nat) × St)} {FR LO : Nat} (hr : ∀ {s s' : St} {a : Nat} {r : Option Nat ⊕ Nat}, recT s a = some (r, s') → CTX l E yX6_test cX6_test 3 (some (.object "RoseThrow$Test")) FR LO [vr (some a)] s (oX (fun v => some (vr v)) 7 r) s') (hF : 200 ≤ FR) (hL : 12000 ≤ LO) {s s' : St} {r : (Option Nat ⊕ Nat)} {this : Nat}  (h : F_X6_both recT s this = some (r, s')) : CTX l E yX6_both cX6_both 3 (some (.object "RoseThrow$Test")) (FR + 3) (LO + 180) [vr (some this)] s (oX (fun v => some (vr v)) 7 r) s' := by
  refine CTX.start hE (by decide) rfl [(0, vr (some this))] rfl (fun X hX B ht => ?_)
  subst hX
  have B : FX X E cX6_both 3 (some (.object "RoseThrow$Test")) "RoseThrow$Reader" "both" (sn s) (ss s) (FR + 3) (LO + 180) := B
  unfold F_X6_both at h
  refine r_aload_n (j := 0) B dX6_both_0 rfl rfl ?_
  obtain ⟨hg1, h⟩ := gd_e h
  rcases bnx_e h with ⟨b5, s3, hc4, h⟩ | ⟨r2, s3, hc4, h⟩
  · cases h
    refine r_xVx (As := []) (rest := []) B rfl rfl EX.same (c_X6_plain B.ge h0 hr hF hL hc4) (cw_X6_plain (Nat.ble_eq.mpr (by omega)) (Nat.ble_eq.mpr (by omega))) (fun _ => (isRd_e hg1).elim (fun e => RV.of 6 e rfl rfl q1021) (fun e => RV.of 17 e rfl rfl q1022)) q1018 q1019 rfl dX6_both_1 (fun hk => ?_)
    exact r_out B ht hk rfl (by decide) rfl
  refine r_xVn (As := []) (rest := []) B rfl rfl EX.same (c_X6_plain B.ge h0 hr hF hL hc4) (cw_X6_plain (Nat.ble_eq.mpr (by omega)) (Nat.ble_eq.mpr (by omega))) (fun _ => (isRd_e hg1).elim (fun e => RV.of 6 e rfl rfl q1021) (fun e => RV.of 17 e rfl rfl q1022)) q1018 q1019 rfl dX6_both_1 ?_
  refine r_astore_n (L' := [(0, vr (some this)), (1, vr r2)]) B dX6_both_4 rfl (by decide) rfl rfl rfl ?_
  refine r_aload_n (j := 0) B dX6_both_5 rfl rfl ?_
  refine r_ldcS 24 (o := some 1000000024) B rfl rfl dX6_both_6 ?_
  obtain ⟨hg6, h⟩ := gd_e h
  obtain ⟨r7, s8, hc9, h⟩ := bnd_e h
  refine r_callVv (As := [vr (some 1000000024)]) (rest := []) B rfl rfl EX.same (c_X6_is B.ge h0 hc9) (cw_X6_is (Nat.ble_eq.mpr (by omega)) (Nat.ble_eq.mpr (by omega))) (fun _ => (isRd_e hg6).elim (fun e => RV.of 6 e rfl rfl q2253) (fun e => RV.of 17 e rfl rfl q2254)) q883 q765 rfl dX6_both_8 ?_
  refine r_if_ne (tgt := 16) B dX6_both_11 (by decide) (fun cn10 => ?_) (fun cn10 => ?_)
  · have h := of cn10 h
    obtain ⟨hg11, h⟩ := gd_e h
    obtain ⟨s12, e13, h⟩ := nam_e h
    refine r_new B e13 hg11 (c := 14) rfl (by decide) rfl in_X17 tyX17_ok rfl q1067 q1068 q153 (fun _ => h0 _) dX6_both_16 ?_
    refine r_dup B dX6_both_19 rfl ?_
    refine r_iconst (v := 1) B dX6_both_20 (by decide) ?_
    obtain ⟨r14, s15, hc16, h⟩ := bnd_e h
    refine r_callI (As := [vi (1 : Int32)]) (rest := [vr (some (sn s8))]) B rfl rfl EX.same (c_X17_init B.ge h0 hc16) (cw_X17_init (Nat.ble_eq.mpr (by omega)) (Nat.ble_eq.mpr (by omega))) rfl q1069 q1070 rfl dX6_both_21 ?_
    refine r_astore_n (L' := [(0, vr (some this)), (1, vr r2), (2, vr (some (sn s8)))]) B dX6_both_24 rfl (by decide) rfl rfl rfl ?_
    refine r_aload_n (j := 2) B dX6_both_25 rfl rfl ?_
    obtain ⟨hg17, h⟩ := gd_e h
    refine g14N (k := 1) B (vr (sr s15 (sn s8) 1)) rfl (fun _ => isK_e hg17) rfl (lw_n q1077 rfl) rfl (fun _ => rfl) dX6_both_26 ?_
    refine r_aload_n (j := 1) B dX6_both_29 rfl rfl ?_
    obtain ⟨a18, ea19, h⟩ := drf_e h
    obtain ⟨hg20, h⟩ := gd_e h
    obtain ⟨r21, s22, hc23, h⟩ := bnd_e h
    refine r_callVv (As := [vr r2]) (rest := []) B rfl ea19 EX.same (c_J2_add B.ge h0 hc23) (cw_J2_add (Nat.ble_eq.mpr (by omega)) (Nat.ble_eq.mpr (by omega))) (fun z => RV.of 18 ((fun _ => isK_e hg20) z) rfl rfl q1085) q1083 q1084 rfl dX6_both_30 ?_
    refine r_pop B dX6_both_33 rfl ?_
    refine r_pick [0, 2] (L' := [(0, vr (some this)), (2, vr (some (sn s8)))]) rfl ?_
    exact w_X6_both_34 B ht h0 hr hF hL FU s22 (some this) (some (sn s8)) h
  · have h := ot cn10 h
    refine r_aload_n (j := 1) B dX6_both_14 rfl rfl ?_
    cases h
    exact r_ret (r_aret (Or.inl ⟨_, rfl⟩) B dX6_both_15 rfl)
set_option maxHeartbeats 4000000 in
theorem cw_X6_both {FR LO : Nat} {X : CX} {fr lo : Nat} (h1 : Nat.ble ((FR + 3) + 1) fr = true) (h2 : Nat.ble (22 + (LO + 180)) lo = true) : CW X fr lo yX6_both cX6_both 3 (some (.object "RoseThrow$Test")) (FR + 3) (LO + 180) 0 := ⟨q1017, q139, ⟨by decide +kernel, by decide +kernel, by decide +kernel⟩, Nat.le_of_ble_eq_true h1, Nat.le_of_ble_eq_true h2⟩

set_option maxHeartbeats 4000000 in
noncomputable def F_X6_test_34 (recT : St → Nat → Option ((Option Nat ⊕ Nat) × St)) : Nat → St → Option Nat → Option Nat → Option ((Option Nat ⊕ Nat) × St)
  | 0 => fun _ _ _ => none
  | n + 1 => fun s x0 x2 => drf x0 fun a1 => gd (isRd s a1) <| bnd (F_X6_takes s a1 (some 1000000025)) fun r4 s5 => if r4 = 0 then (some (.inl x2, s5)) else (drf x2 fun a8 => gd (isK s5 a8 14) <| drf x0 fun a11 => gd (isRd s5 a11) <| bnx (F_X6_both recT s5 a11) (fun b17 s15 => some (.inr b17, s15)) <| fun r14 s15 => drf (sr s5 a8 1) fun a18 => gd (isK s15 a18 18) <| bnd (F_J2_add s15 a18 r14) fun r21 s22 => F_X6_test_34 recT n s22 x0 x2)
set_option maxHeartbeats 4000000 in
theorem w_X6_test_34 {X : CX} {E : EV} {a0 s' : St} {r : (Option Nat ⊕ Nat)} {recT : St → Nat → Option ((Option Nat ⊕ Nat) × St)} {FR LO : Nat} (B : FX X E cX6_test 3 (some (.object "RoseThrow$Test")) "RoseThrow$Reader" "test" (sn a0) (ss a0) (FR + 4) (LO + 240)) (ht : ∀ x ∈ (xC X).exceptionTable.toList, False) (h0 : ∀ σ, eSk E σ) (hr : ∀ {s s' : St} {a : Nat} {r : Option Nat ⊕ Nat}, recT s a = some (r, s') → CTX (xL X) E yX6_test cX6_test 3 (some (.object "RoseThrow$Test")) FR LO [vr (some a)] s (oX (fun v => some (vr v)) 7 r) s') (hF : 200 ≤ FR) (hL : 12000 ≤ LO) : ∀ (n : Nat) (s : St) (x0 : Option Nat) (x2 : Option Nat), F_X6_test_34 recT  n s x0 x2 = some (r, s') → J X E (sn a0) (ss a0) 3 (QZ X E a0 (oX (fun v => some (vr v)) 7 r) s') s 34 [(0, vr x0), (2, vr x2)] [] := by
  intro n
  induction n with
  | zero => intro s x0 x2 h; exact absurd (show (none : Option ((Option Nat ⊕ Nat) × St)) = _ from h) (by simp)
  | succ n ih =>
    intro s x0 x2 h
    rw [F_X6_test_34] at h
    refine r_aload_n (j := 0) B dX6_test_34 rfl rfl ?_
    refine r_ldcS 25 (o := some 1000000025) B rfl rfl dX6_test_35 ?_
    obtain ⟨a1, ea2, h⟩ := drf_e h
    obtain ⟨hg3, h⟩ := gd_e h
    obtain ⟨r4, s5, hc6, h⟩ := bnd_e h
    refine r_callVv (As := [vr (some 1000000025)]) (rest := []) B rfl ea2 EX.same (c_X6_takes B.ge h0 hc6) (cw_X6_takes (Nat.ble_eq.mpr (by omega)) (Nat.ble_eq.mpr (by omega))) (fun _ => (isRd_e hg3).elim (fun e => RV.of 6 e rfl rfl q901) (fun e => RV.of 17 e rfl rfl q902)) q898 q899 rfl dX6_test_37 ?_
    refine r_if_eq (tgt := 58) B dX6_test_40 (by decide) (fun cn7 => ?_) (fun cn7 => ?_)
    · have h := ot cn7 h
      refine r_aload_n (j := 1) B dX6_test_58 rfl rfl ?_
      cases h
      exact r_ret (r_aret (Or.inl ⟨_, rfl⟩) B dX6_test_59 rfl)
    · have h := of cn7 h
      refine r_aload_n (j := 1) B dX6_test_43 rfl rfl ?_
      obtain ⟨a8, ea9, h⟩ := drf_e h
      obtain ⟨hg10, h⟩ := gd_e h
      refine g14N (k := 1) B (vr (sr s5 a8 1)) ea9 (fun _ => isK_e hg10) rfl (lw_n q1077 rfl) rfl (fun _ => rfl) dX6_test_44 ?_
      refine r_aload_n (j := 0) B dX6_test_47 rfl rfl ?_
      obtain ⟨a11, ea12, h⟩ := drf_e h
      obtain ⟨hg13, h⟩ := gd_e h
      rcases bnx_e h with ⟨b17, s15, hc16, h⟩ | ⟨r14, s15, hc16, h⟩
      · cases h
        refine r_xVx (As := []) (rest := [vr (sr s5 a8 1)]) B rfl ea12 EX.same (c_X6_both B.ge h0 hr hF hL hc16) (cw_X6_both (Nat.ble_eq.mpr (by omega)) (Nat.ble_eq.mpr (by omega))) (fun _ => (isRd_e hg13).elim (fun e => RV.of 6 e rfl rfl q1015) (fun e => RV.of 17 e rfl rfl q1016)) q1012 q1013 rfl dX6_test_48 (fun hk => ?_)
        exact r_out B ht hk rfl (by decide) rfl
      refine r_xVn (As := []) (rest := [vr (sr s5 a8 1)]) B rfl ea12 EX.same (c_X6_both B.ge h0 hr hF hL hc16) (cw_X6_both (Nat.ble_eq.mpr (by omega)) (Nat.ble_eq.mpr (by omega))) (fun _ => (isRd_e hg13).elim (fun e => RV.of 6 e rfl rfl q1015) (fun e => RV.of 17 e rfl rfl q1016)) q1012 q1013 rfl dX6_test_48 ?_
      obtain ⟨a18, ea19, h⟩ := drf_e h
      obtain ⟨hg20, h⟩ := gd_e h
      obtain ⟨r21, s22, hc23, h⟩ := bnd_e h
      refine r_callVv (As := [vr r14]) (rest := []) B rfl ea19 EX.same (c_J2_add B.ge h0 hc23) (cw_J2_add (Nat.ble_eq.mpr (by omega)) (Nat.ble_eq.mpr (by omega))) (fun z => RV.of 18 ((fun _ => isK_e hg20) z) rfl rfl q1085) q1083 q1084 rfl dX6_test_51 ?_
      refine r_pop B dX6_test_54 rfl ?_
      refine r_goto (tgt := 34) B dX6_test_55 (by decide) ?_
      exact ih s22 x0 x2 h
set_option maxHeartbeats 4000000 in
noncomputable def F_X6_test (recT : St → Nat → Option ((Option Nat ⊕ Nat) × St)) (s : St) (this : Nat)  : Option ((Option Nat ⊕ Nat) × St) := gd (isRd s this) <| bnx (F_X6_both recT s this) (fun b5 s3 => some (.inr b5, s3)) <| fun r2 s3 => gd (isRd s3 this) <| bnd (F_X6_is s3 this (some 1000000025)) fun r7 s8 => if r7 = 0 then (some (.inl r2, s8)) else (gd (okN s8 2) <| nam (newO s8 (14, 0) 2) fun s12 => bnd (F_X17_init s12 (sn s8) (0 : Int32)) fun _ s15 => gd (isK s15 (sn s8) 14) <| drf (sr s15 (sn s8) 1) fun a18 => gd (isK s15 a18 18) <| bnd (F_J2_add s15 a18 r2) fun r21 s22 => F_X6_test_34 recT FU s22 (some this) (some (sn s8)))
set_option maxHeartbeats 4000000 in
theorem c_X6_test {l : Launch} {E : EV} (hE : GE E) (h0 : ∀ σ, eSk E σ) {recT : St → Nat → Option ((Option Nat ⊕ Nat) × St)} {FR LO : Nat} (hr : ∀ {s s' : St} {a : Nat} {r : Option Nat ⊕ Nat}, recT s a = some (r, s') → CTX l E yX6_test cX6_test 3 (some (.object "RoseThrow$Test")) FR LO [vr (some a)] s (oX (fun v => some (vr v)) 7 r) s') (hF : 200 ≤ FR) (hL : 12000 ≤ LO) {s s' : St} {r : (Option Nat ⊕ Nat)} {this : Nat}  (h : F_X6_test recT s this = some (r, s')) : CTX l E yX6_test cX6_test 3 (some (.object "RoseThrow$Test")) (FR + 4) (LO + 240) [vr (some this)] s (oX (fun v => some (vr v)) 7 r) s' := by
  refine CTX.start hE (by decide) rfl [(0, vr (some this))] rfl (fun X hX B ht => ?_)
  subst hX
  have B : FX X E cX6_test 3 (some (.object "RoseThrow$Test")) "RoseThrow$Reader" "test" (sn s) (ss s) (FR + 4) (LO + 240) := B
  unfold F_X6_test at h
  refine r_aload_n (j := 0) B dX6_test_0 rfl rfl ?_
  obtain ⟨hg1, h⟩ := gd_e h
  rcases bnx_e h with ⟨b5, s3, hc4, h⟩ | ⟨r2, s3, hc4, h⟩
  · cases h
    refine r_xVx (As := []) (rest := []) B rfl rfl EX.same (c_X6_both B.ge h0 hr hF hL hc4) (cw_X6_both (Nat.ble_eq.mpr (by omega)) (Nat.ble_eq.mpr (by omega))) (fun _ => (isRd_e hg1).elim (fun e => RV.of 6 e rfl rfl q1015) (fun e => RV.of 17 e rfl rfl q1016)) q1012 q1013 rfl dX6_test_1 (fun hk => ?_)
    exact r_out B ht hk rfl (by decide) rfl
  refine r_xVn (As := []) (rest := []) B rfl rfl EX.same (c_X6_both B.ge h0 hr hF hL hc4) (cw_X6_both (Nat.ble_eq.mpr (by omega)) (Nat.ble_eq.mpr (by omega))) (fun _ => (isRd_e hg1).elim (fun e => RV.of 6 e rfl rfl q1015) (fun e => RV.of 17 e rfl rfl q1016)) q1012 q1013 rfl dX6_test_1 ?_
  refine r_astore_n (L' := [(0, vr (some this)), (1, vr r2)]) B dX6_test_4 rfl (by decide) rfl rfl rfl ?_
  refine r_aload_n (j := 0) B dX6_test_5 rfl rfl ?_
  refine r_ldcS 25 (o := some 1000000025) B rfl rfl dX6_test_6 ?_
  obtain ⟨hg6, h⟩ := gd_e h
  obtain ⟨r7, s8, hc9, h⟩ := bnd_e h
  refine r_callVv (As := [vr (some 1000000025)]) (rest := []) B rfl rfl EX.same (c_X6_is B.ge h0 hc9) (cw_X6_is (Nat.ble_eq.mpr (by omega)) (Nat.ble_eq.mpr (by omega))) (fun _ => (isRd_e hg6).elim (fun e => RV.of 6 e rfl rfl q2253) (fun e => RV.of 17 e rfl rfl q2254)) q883 q765 rfl dX6_test_8 ?_
  refine r_if_ne (tgt := 16) B dX6_test_11 (by decide) (fun cn10 => ?_) (fun cn10 => ?_)
  · have h := of cn10 h
    obtain ⟨hg11, h⟩ := gd_e h
    obtain ⟨s12, e13, h⟩ := nam_e h
    refine r_new B e13 hg11 (c := 14) rfl (by decide) rfl in_X17 tyX17_ok rfl q1067 q1068 q153 (fun _ => h0 _) dX6_test_16 ?_
    refine r_dup B dX6_test_19 rfl ?_
    refine r_iconst (v := 0) B dX6_test_20 (by decide) ?_
    obtain ⟨r14, s15, hc16, h⟩ := bnd_e h
    refine r_callI (As := [vi (0 : Int32)]) (rest := [vr (some (sn s8))]) B rfl rfl EX.same (c_X17_init B.ge h0 hc16) (cw_X17_init (Nat.ble_eq.mpr (by omega)) (Nat.ble_eq.mpr (by omega))) rfl q1069 q1070 rfl dX6_test_21 ?_
    refine r_astore_n (L' := [(0, vr (some this)), (1, vr r2), (2, vr (some (sn s8)))]) B dX6_test_24 rfl (by decide) rfl rfl rfl ?_
    refine r_aload_n (j := 2) B dX6_test_25 rfl rfl ?_
    obtain ⟨hg17, h⟩ := gd_e h
    refine g14N (k := 1) B (vr (sr s15 (sn s8) 1)) rfl (fun _ => isK_e hg17) rfl (lw_n q1077 rfl) rfl (fun _ => rfl) dX6_test_26 ?_
    refine r_aload_n (j := 1) B dX6_test_29 rfl rfl ?_
    obtain ⟨a18, ea19, h⟩ := drf_e h
    obtain ⟨hg20, h⟩ := gd_e h
    obtain ⟨r21, s22, hc23, h⟩ := bnd_e h
    refine r_callVv (As := [vr r2]) (rest := []) B rfl ea19 EX.same (c_J2_add B.ge h0 hc23) (cw_J2_add (Nat.ble_eq.mpr (by omega)) (Nat.ble_eq.mpr (by omega))) (fun z => RV.of 18 ((fun _ => isK_e hg20) z) rfl rfl q1085) q1083 q1084 rfl dX6_test_30 ?_
    refine r_pop B dX6_test_33 rfl ?_
    refine r_pick [0, 2] (L' := [(0, vr (some this)), (2, vr (some (sn s8)))]) rfl ?_
    exact w_X6_test_34 B ht h0 hr hF hL FU s22 (some this) (some (sn s8)) h
  · have h := ot cn10 h
    refine r_aload_n (j := 1) B dX6_test_14 rfl rfl ?_
    cases h
    exact r_ret (r_aret (Or.inl ⟨_, rfl⟩) B dX6_test_15 rfl)
set_option maxHeartbeats 4000000 in
theorem cw_X6_test {FR LO : Nat} {X : CX} {fr lo : Nat} (h1 : Nat.ble ((FR + 4) + 1) fr = true) (h2 : Nat.ble (22 + (LO + 240)) lo = true) : CW X fr lo yX6_test cX6_test 3 (some (.object "RoseThrow$Test")) (FR + 4) (LO + 240) 0 := ⟨q1011, q139, ⟨by decide +kernel, by decide +kernel, by decide +kernel⟩, Nat.le_of_ble_eq_true h1, Nat.le_of_ble_eq_true h2⟩

noncomputable def F_testR : Nat → St → Nat → Option ((Option Nat ⊕ Nat) × St)
  | 0 => fun _ _ => none
  | d + 1 => fun s a => F_X6_test (F_testR d) s a
theorem c_testR {l : Launch} {E : EV} (hE : GE E) (h0 : ∀ σ, eSk E σ) : ∀ (d : Nat) (s : St) (a : Nat) (r : Option Nat ⊕ Nat) (s' : St), F_testR d s a = some (r, s') → CTX l E yX6_test cX6_test 3 (some (.object "RoseThrow$Test")) (200 + 4 * d) (12000 + 240 * d) [vr (some a)] s (oX (fun v => some (vr v)) 7 r) s' := by
  intro d
  induction d with
  | zero => intro s a r s' h; cases h
  | succ d ih =>
    intro s a r s' h
    exact c_X6_test hE h0 (FR := 200 + 4 * d) (LO := 12000 + 240 * d) (fun {_ _ _ _} h => ih _ _ _ _ h) (Nat.le_add_right _ _) (Nat.le_add_right _ _) h

set_option maxHeartbeats 4000000 in
noncomputable def F_X20_clause_132 (s : St) (x0 : Option Nat) (x2 : Option Nat) : Option ((Unit ⊕ Nat) × St) := drf x0 fun a1 => gd (isK s a1 17) <| drf (sr s a1 7) fun a4 => gd (isK s a4 18) <| bnd (F_J2_add s a4 x2) fun r7 s8 => some (.inl (), s8)
set_option maxHeartbeats 4000000 in
theorem w_X20_clause_132 {X : CX} {E : EV} {a0 s' : St} {r : (Unit ⊕ Nat)} (B : FX X E cX20_clause 3 none "RoseThrow$OrderReader" "clause" (sn a0) (ss a0) 249 14902) (ht : ∀ x ∈ (xC X).exceptionTable.toList, False) (h0 : ∀ σ, eSk E σ) (s : St) (x0 : Option Nat) (x2 : Option Nat) (h : F_X20_clause_132   s x0 x2 = some (r, s')) : J X E (sn a0) (ss a0) 3 (QZ X E a0 (oX (fun v => none) 7 r) s') s 132 [(0, vr x0), (2, vr x2)] [] := by
  unfold F_X20_clause_132 at h
  refine r_aload_n (j := 0) B dX20_clause_132 rfl rfl ?_
  obtain ⟨a1, ea2, h⟩ := drf_e h
  obtain ⟨hg3, h⟩ := gd_e h
  refine g17 (k := 7) B (vr (sr s a1 7)) ea2 (fun _ => isK_e hg3) rfl q1422 rfl (fun _ => rfl) dX20_clause_133 ?_
  refine r_aload_n (j := 1) B dX20_clause_136 rfl rfl ?_
  obtain ⟨a4, ea5, h⟩ := drf_e h
  obtain ⟨hg6, h⟩ := gd_e h
  obtain ⟨r7, s8, hc9, h⟩ := bnd_e h
  refine r_callVv (As := [vr x2]) (rest := []) B rfl ea5 EX.same (c_J2_add B.ge h0 hc9) (cw_J2_add rfl rfl) (fun z => RV.of 18 ((fun _ => isK_e hg6) z) rfl rfl q1085) q1156 q1084 rfl dX20_clause_137 ?_
  refine r_pop B dX20_clause_140 rfl ?_
  cases h
  exact r_ret (r_vret B dX20_clause_141 rfl)
set_option maxHeartbeats 4000000 in
noncomputable def F_X20_clause_115 (s : St) (x0 : Option Nat) (x2 : Option Nat) : Option ((Unit ⊕ Nat) × St) := drf x0 fun a1 => gd (isK s a1 17) <| bnd (F_X6_takes s a1 (some 1000000010)) fun r4 s5 => if r4 = 0 then (F_X20_clause_132 s5 x0 x2) else (drf x0 fun a8 => gd (isK s5 a8 17) <| bnx (F_testR 12 s5 a8) (fun b14 s12 => some (.inr b14, s12)) <| fun r11 s12 => drf x2 fun a15 => gd (isK s12 a15 15) <| nam (setR s12 a15 4 r11) fun s18 => F_X20_clause_132 s18 x0 x2)
set_option maxHeartbeats 4000000 in
theorem w_X20_clause_115 {X : CX} {E : EV} {a0 s' : St} {r : (Unit ⊕ Nat)} (B : FX X E cX20_clause 3 none "RoseThrow$OrderReader" "clause" (sn a0) (ss a0) 249 14902) (ht : ∀ x ∈ (xC X).exceptionTable.toList, False) (h0 : ∀ σ, eSk E σ) (s : St) (x0 : Option Nat) (x2 : Option Nat) (h : F_X20_clause_115   s x0 x2 = some (r, s')) : J X E (sn a0) (ss a0) 3 (QZ X E a0 (oX (fun v => none) 7 r) s') s 115 [(0, vr x0), (2, vr x2)] [] := by
  unfold F_X20_clause_115 at h
  refine r_aload_n (j := 0) B dX20_clause_115 rfl rfl ?_
  refine r_ldcS 10 (o := some 1000000010) B rfl rfl dX20_clause_116 ?_
  obtain ⟨a1, ea2, h⟩ := drf_e h
  obtain ⟨hg3, h⟩ := gd_e h
  obtain ⟨r4, s5, hc6, h⟩ := bnd_e h
  refine r_callUv (As := [vr (some 1000000010)]) (rest := []) B rfl ea2 EX.same (c_X6_takes B.ge h0 hc6) (cw_X6_takes rfl rfl) (fun _ => RV.of 17 (isK_e hg3) rfl rfl q1151) q1149 q899 q1150 (lw_n q1004 rfl) (by decide) rfl rfl dX20_clause_118 ?_
  refine r_if_eq (tgt := 132) B dX20_clause_121 (by decide) (fun cn7 => ?_) (fun cn7 => ?_)
  · have h := ot cn7 h
    exact w_X20_clause_132 B ht h0 s5 x0 x2 h
  · have h := of cn7 h
    refine r_aload_n (j := 1) B dX20_clause_124 rfl rfl ?_
    refine r_aload_n (j := 0) B dX20_clause_125 rfl rfl ?_
    obtain ⟨a8, ea9, h⟩ := drf_e h
    obtain ⟨hg10, h⟩ := gd_e h
    rcases bnx_e h with ⟨b14, s12, hc13, h⟩ | ⟨r11, s12, hc13, h⟩
    · cases h
      refine r_xDx (x := ⟨"RoseThrow$OrderReader", "test", "()LRoseThrow$Test;"⟩) (owner := "RoseThrow$Reader") (As := []) (rest := [vr x2]) B rfl ea9 EX.same ⟨yX6_test, cX6_test, 3, _, _, _, (RV.of 17 (isK_e hg10) rfl rfl q1155), q1010, (c_testR B.ge h0 12 _ _ _ _ hc13), ⟨q1011, q139, ⟨by decide +kernel, by decide +kernel, show Option.map (fun d => d.parameters.length) (parseMethodDescriptor yX6_test.desc) = some 0 from by decide +kernel⟩⟩, Nat.le_refl _, Nat.le_refl _, rfl⟩ (by decide) (by decide) q1153 q1154 (lw_n q1008 rfl) (by decide) rfl dX20_clause_126 (fun hk => ?_)
      exact r_out B ht hk rfl (by decide) rfl
    refine r_xDn (x := ⟨"RoseThrow$OrderReader", "test", "()LRoseThrow$Test;"⟩) (owner := "RoseThrow$Reader") (As := []) (rest := [vr x2]) B rfl ea9 EX.same ⟨yX6_test, cX6_test, 3, _, _, _, (RV.of 17 (isK_e hg10) rfl rfl q1155), q1010, (c_testR B.ge h0 12 _ _ _ _ hc13), ⟨q1011, q139, ⟨by decide +kernel, by decide +kernel, show Option.map (fun d => d.parameters.length) (parseMethodDescriptor yX6_test.desc) = some 0 from by decide +kernel⟩⟩, Nat.le_refl _, Nat.le_refl _, rfl⟩ (by decide) (by decide) q1153 q1154 (lw_n q1008 rfl) (by decide) rfl dX20_clause_126 ?_
    obtain ⟨a15, ea16, h⟩ := drf_e h
    obtain ⟨hg17, h⟩ := gd_e h
    obtain ⟨s18, e19, h⟩ := nam_e h
    refine pR15N (k := 4) B e19 ea16 (fun _ => isK_e hg17) rfl (lw_n q1128 rfl) rfl rfl (Or.inl ⟨_, rfl⟩) (fun _ => h0 _) dX20_clause_129 ?_
    exact w_X20_clause_132 B ht h0 s18 x0 x2 h
set_option maxHeartbeats 4000000 in
noncomputable def F_X20_clause_95 (s : St) (x0 : Option Nat) (x2 : Option Nat) : Option ((Unit ⊕ Nat) × St) := drf x0 fun a1 => gd (isK s a1 17) <| bnd (F_X6_takes s a1 (some 1000000009)) fun r4 s5 => if r4 = 0 then (F_X20_clause_115 s5 x0 x2) else (drf x0 fun a8 => gd (isK s5 a8 17) <| bnx (F_X6_number s5 a8 (1 : Int32) (20 : Int32)) (fun b14 s12 => some (.inr b14, s12)) <| fun r11 s12 => drf x2 fun a15 => gd (isK s12 a15 15) <| nam (setI s12 a15 3 r11) fun s18 => F_X20_clause_115 s18 x0 x2)
set_option maxHeartbeats 4000000 in
theorem w_X20_clause_95 {X : CX} {E : EV} {a0 s' : St} {r : (Unit ⊕ Nat)} (B : FX X E cX20_clause 3 none "RoseThrow$OrderReader" "clause" (sn a0) (ss a0) 249 14902) (ht : ∀ x ∈ (xC X).exceptionTable.toList, False) (h0 : ∀ σ, eSk E σ) (s : St) (x0 : Option Nat) (x2 : Option Nat) (h : F_X20_clause_95   s x0 x2 = some (r, s')) : J X E (sn a0) (ss a0) 3 (QZ X E a0 (oX (fun v => none) 7 r) s') s 95 [(0, vr x0), (2, vr x2)] [] := by
  unfold F_X20_clause_95 at h
  refine r_aload_n (j := 0) B dX20_clause_95 rfl rfl ?_
  refine r_ldcS 9 (o := some 1000000009) B rfl rfl dX20_clause_96 ?_
  obtain ⟨a1, ea2, h⟩ := drf_e h
  obtain ⟨hg3, h⟩ := gd_e h
  obtain ⟨r4, s5, hc6, h⟩ := bnd_e h
  refine r_callUv (As := [vr (some 1000000009)]) (rest := []) B rfl ea2 EX.same (c_X6_takes B.ge h0 hc6) (cw_X6_takes rfl rfl) (fun _ => RV.of 17 (isK_e hg3) rfl rfl q1151) q1149 q899 q1150 (lw_n q1004 rfl) (by decide) rfl rfl dX20_clause_98 ?_
  refine r_if_eq (tgt := 115) B dX20_clause_101 (by decide) (fun cn7 => ?_) (fun cn7 => ?_)
  · have h := ot cn7 h
    exact w_X20_clause_115 B ht h0 s5 x0 x2 h
  · have h := of cn7 h
    refine r_aload_n (j := 1) B dX20_clause_104 rfl rfl ?_
    refine r_aload_n (j := 0) B dX20_clause_105 rfl rfl ?_
    refine r_iconst (v := 1) B dX20_clause_106 (by decide) ?_
    refine r_bipush (v := 20) B dX20_clause_107 (by decide) ?_
    obtain ⟨a8, ea9, h⟩ := drf_e h
    obtain ⟨hg10, h⟩ := gd_e h
    rcases bnx_e h with ⟨b14, s12, hc13, h⟩ | ⟨r11, s12, hc13, h⟩
    · cases h
      refine r_xDx (x := ⟨"RoseThrow$OrderReader", "number", "(II)I"⟩) (owner := "RoseThrow$Reader") (As := [vi (1 : Int32), vi (20 : Int32)]) (rest := [vr x2]) B rfl ea9 EX.same ⟨yX6_number, cX6_number, 5, _, _, _, (RV.of 17 (isK_e hg10) rfl rfl q968), q913, (c_X6_number B.ge h0 hc13), ⟨q917, q139, ⟨by decide +kernel, by decide +kernel, show Option.map (fun d => d.parameters.length) (parseMethodDescriptor yX6_number.desc) = some 2 from by decide +kernel⟩⟩, Nat.le_refl _, Nat.le_refl _, rfl⟩ (by decide) (by decide) q965 q966 (lw_n q967 rfl) (by decide) rfl dX20_clause_109 (fun hk => ?_)
      exact r_out B ht hk rfl (by decide) rfl
    refine r_xDn (x := ⟨"RoseThrow$OrderReader", "number", "(II)I"⟩) (owner := "RoseThrow$Reader") (As := [vi (1 : Int32), vi (20 : Int32)]) (rest := [vr x2]) B rfl ea9 EX.same ⟨yX6_number, cX6_number, 5, _, _, _, (RV.of 17 (isK_e hg10) rfl rfl q968), q913, (c_X6_number B.ge h0 hc13), ⟨q917, q139, ⟨by decide +kernel, by decide +kernel, show Option.map (fun d => d.parameters.length) (parseMethodDescriptor yX6_number.desc) = some 2 from by decide +kernel⟩⟩, Nat.le_refl _, Nat.le_refl _, rfl⟩ (by decide) (by decide) q965 q966 (lw_n q967 rfl) (by decide) rfl dX20_clause_109 ?_
    obtain ⟨a15, ea16, h⟩ := drf_e h
    obtain ⟨hg17, h⟩ := gd_e h
    obtain ⟨s18, e19, h⟩ := nam_e h
    refine pI15N (k := 3) B e19 ea16 (fun _ => isK_e hg17) rfl (lw_n q1125 rfl) rfl rfl (fun _ _ _ => rfl) rfl dX20_clause_112 ?_
    exact w_X20_clause_115 B ht h0 s18 x0 x2 h
set_option maxHeartbeats 4000000 in
noncomputable def F_X20_clause_52 (s : St) (x0 : Option Nat) (x1 : Int32) (z0 : Int32) (z1 : Option Nat) : Option ((Unit ⊕ Nat) × St) := drf z1 fun a1 => gd (isK s a1 17) <| bnx (F_X6_begins s a1 z0) (fun b7 s5 => some (.inr b7, s5)) <| fun _ s5 => drf x0 fun a8 => gd (isK s5 a8 17) <| bnd (F_X6_next s5 a8) fun _ s12 => gd (okN s12 5) <| nam (newO s12 (15, 0) 5) fun s15 => bnd (F_X18_init s15 (sn s12) x1) fun _ s18 => if x1 = (1 : Int32) then (F_X20_clause_95 s18 x0 (some (sn s12))) else (drf x0 fun a21 => gd (isK s18 a21 17) <| bnx (F_sumR 12 s18 a21) (fun b27 s25 => some (.inr b27, s25)) <| fun r24 s25 => gd (isK s25 (sn s12) 15) <| nam (setR s25 (sn s12) 1 r24) fun s29 => drf x0 fun a31 => gd (isK s29 a31 17) <| bnx (F_X6_need s29 a31 (some 1000000008)) (fun b37 s35 => some (.inr b37, s35)) <| fun _ s35 => drf x0 fun a38 => gd (isK s35 a38 17) <| bnx (F_sumR 12 s35 a38) (fun b44 s42 => some (.inr b44, s42)) <| fun r41 s42 => gd (isK s42 (sn s12) 15) <| nam (setR s42 (sn s12) 2 r41) fun s46 => F_X20_clause_95 s46 x0 (some (sn s12)))
set_option maxHeartbeats 4000000 in
theorem w_X20_clause_52 {X : CX} {E : EV} {a0 s' : St} {r : (Unit ⊕ Nat)} (B : FX X E cX20_clause 3 none "RoseThrow$OrderReader" "clause" (sn a0) (ss a0) 249 14902) (ht : ∀ x ∈ (xC X).exceptionTable.toList, False) (h0 : ∀ σ, eSk E σ) (s : St) (x0 : Option Nat) (x1 : Int32) (z0 : Int32) (z1 : Option Nat) (h : F_X20_clause_52   s x0 x1 z0 z1 = some (r, s')) : J X E (sn a0) (ss a0) 3 (QZ X E a0 (oX (fun v => none) 7 r) s') s 52 [(0, vr x0), (1, vi x1)] [vi z0, vr z1] := by
  unfold F_X20_clause_52 at h
  obtain ⟨a1, ea2, h⟩ := drf_e h
  obtain ⟨hg3, h⟩ := gd_e h
  rcases bnx_e h with ⟨b7, s5, hc6, h⟩ | ⟨r4, s5, hc6, h⟩
  · cases h
    refine r_xDx (x := ⟨"RoseThrow$OrderReader", "begins", "(Z)V"⟩) (owner := "RoseThrow$Reader") (As := [vi z0]) (rest := []) B rfl ea2 EX.same ⟨yX6_begins, cX6_begins, 2, _, _, _, (RV.of 17 (isK_e hg3) rfl rfl q1108), q820, (c_X6_begins B.ge h0 hc6), ⟨q821, q139, ⟨by decide +kernel, by decide +kernel, show Option.map (fun d => d.parameters.length) (parseMethodDescriptor yX6_begins.desc) = some 1 from by decide +kernel⟩⟩, Nat.le_refl _, Nat.le_refl _, rfl⟩ (by decide) (by decide) q1106 q1107 (lw_n q818 rfl) (by decide) rfl dX20_clause_52 (fun hk => ?_)
    exact r_out B ht hk rfl (by decide) rfl
  refine r_xD0 (x := ⟨"RoseThrow$OrderReader", "begins", "(Z)V"⟩) (owner := "RoseThrow$Reader") (As := [vi z0]) (rest := []) B rfl ea2 EX.same ⟨yX6_begins, cX6_begins, 2, _, _, _, (RV.of 17 (isK_e hg3) rfl rfl q1108), q820, (c_X6_begins B.ge h0 hc6), ⟨q821, q139, ⟨by decide +kernel, by decide +kernel, show Option.map (fun d => d.parameters.length) (parseMethodDescriptor yX6_begins.desc) = some 1 from by decide +kernel⟩⟩, Nat.le_refl _, Nat.le_refl _, rfl⟩ (by decide) (by decide) q1106 q1107 (lw_n q818 rfl) (by decide) rfl dX20_clause_52 ?_
  refine r_aload_n (j := 0) B dX20_clause_55 rfl rfl ?_
  obtain ⟨a8, ea9, h⟩ := drf_e h
  obtain ⟨hg10, h⟩ := gd_e h
  obtain ⟨r11, s12, hc13, h⟩ := bnd_e h
  refine r_callU0 (As := []) (rest := []) B rfl ea9 EX.same (c_X6_next B.ge h0 hc13) (cw_X6_next rfl rfl) (fun _ => RV.of 17 (isK_e hg10) rfl rfl q1111) q1109 q743 q1110 (lw_n q843 rfl) (by decide) rfl rfl dX20_clause_56 ?_
  obtain ⟨hg14, h⟩ := gd_e h
  obtain ⟨s15, e16, h⟩ := nam_e h
  refine r_new B e16 hg14 (c := 15) rfl (by decide) rfl in_X18 tyX18_ok rfl q1112 q1113 q158 (fun _ => h0 _) dX20_clause_59 ?_
  refine r_dup B dX20_clause_62 rfl ?_
  refine r_iload_n (j := 1) B dX20_clause_63 rfl rfl ?_
  obtain ⟨r17, s18, hc19, h⟩ := bnd_e h
  refine r_callI (As := [vi x1]) (rest := [vr (some (sn s12))]) B rfl rfl EX.same (c_X18_init B.ge h0 hc19) (cw_X18_init rfl rfl) rfl q1114 q1115 rfl dX20_clause_64 ?_
  refine r_astore_n (L' := [(0, vr x0), (1, vi x1), (2, vr (some (sn s12)))]) B dX20_clause_67 rfl (by decide) rfl rfl rfl ?_
  refine r_iload_n (j := 1) B dX20_clause_68 rfl rfl ?_
  refine r_iconst (v := 1) B dX20_clause_69 (by decide) ?_
  refine r_ic_eq (tgt := 95) B dX20_clause_70 (by decide) (fun cn20 => ?_) (fun cn20 => ?_)
  · have h := ot cn20 h
    refine r_pick [0, 2] (L' := [(0, vr x0), (2, vr (some (sn s12)))]) rfl ?_
    exact w_X20_clause_95 B ht h0 s18 x0 (some (sn s12)) h
  · have h := of cn20 h
    refine r_aload_n (j := 2) B dX20_clause_73 rfl rfl ?_
    refine r_aload_n (j := 0) B dX20_clause_74 rfl rfl ?_
    obtain ⟨a21, ea22, h⟩ := drf_e h
    obtain ⟨hg23, h⟩ := gd_e h
    rcases bnx_e h with ⟨b27, s25, hc26, h⟩ | ⟨r24, s25, hc26, h⟩
    · cases h
      refine r_xDx (x := ⟨"RoseThrow$OrderReader", "sum", "()LRoseThrow$Sum;"⟩) (owner := "RoseThrow$Reader") (As := []) (rest := [vr (some (sn s12))]) B rfl ea22 EX.same ⟨yX6_sum, cX6_sum, 3, _, _, _, (RV.of 17 (isK_e hg23) rfl rfl q1142), q868, (c_sumR B.ge h0 12 _ _ _ _ hc26), ⟨q869, q139, ⟨by decide +kernel, by decide +kernel, show Option.map (fun d => d.parameters.length) (parseMethodDescriptor yX6_sum.desc) = some 0 from by decide +kernel⟩⟩, Nat.le_refl _, Nat.le_refl _, rfl⟩ (by decide) (by decide) q1140 q1141 (lw_n q866 rfl) (by decide) rfl dX20_clause_75 (fun hk => ?_)
      exact r_out B ht hk rfl (by decide) rfl
    refine r_xDn (x := ⟨"RoseThrow$OrderReader", "sum", "()LRoseThrow$Sum;"⟩) (owner := "RoseThrow$Reader") (As := []) (rest := [vr (some (sn s12))]) B rfl ea22 EX.same ⟨yX6_sum, cX6_sum, 3, _, _, _, (RV.of 17 (isK_e hg23) rfl rfl q1142), q868, (c_sumR B.ge h0 12 _ _ _ _ hc26), ⟨q869, q139, ⟨by decide +kernel, by decide +kernel, show Option.map (fun d => d.parameters.length) (parseMethodDescriptor yX6_sum.desc) = some 0 from by decide +kernel⟩⟩, Nat.le_refl _, Nat.le_refl _, rfl⟩ (by decide) (by decide) q1140 q1141 (lw_n q866 rfl) (by decide) rfl dX20_clause_75 ?_
    obtain ⟨hg28, h⟩ := gd_e h
    obtain ⟨s29, e30, h⟩ := nam_e h
    refine pR15N (k := 1) B e30 rfl (fun _ => isK_e hg28) rfl (lw_n q1120 rfl) rfl rfl (Or.inl ⟨_, rfl⟩) (fun _ => h0 _) dX20_clause_78 ?_
    refine r_aload_n (j := 0) B dX20_clause_81 rfl rfl ?_
    refine r_ldcS 8 (o := some 1000000008) B rfl rfl dX20_clause_82 ?_
    obtain ⟨a31, ea32, h⟩ := drf_e h
    obtain ⟨hg33, h⟩ := gd_e h
    rcases bnx_e h with ⟨b37, s35, hc36, h⟩ | ⟨r34, s35, hc36, h⟩
    · cases h
      refine r_xDx (x := ⟨"RoseThrow$OrderReader", "need", "(Ljava/lang/String;)V"⟩) (owner := "RoseThrow$Reader") (As := [vr (some 1000000008)]) (rest := []) B rfl ea32 EX.same ⟨yX6_need, cX6_need, 2, _, _, _, (RV.of 17 (isK_e hg33) rfl rfl q1147), q893, (c_X6_need B.ge h0 hc36), ⟨q897, q139, ⟨by decide +kernel, by decide +kernel, show Option.map (fun d => d.parameters.length) (parseMethodDescriptor yX6_need.desc) = some 1 from by decide +kernel⟩⟩, Nat.le_refl _, Nat.le_refl _, rfl⟩ (by decide) (by decide) q1144 q1145 (lw_n q1146 rfl) (by decide) rfl dX20_clause_84 (fun hk => ?_)
      exact r_out B ht hk rfl (by decide) rfl
    refine r_xD0 (x := ⟨"RoseThrow$OrderReader", "need", "(Ljava/lang/String;)V"⟩) (owner := "RoseThrow$Reader") (As := [vr (some 1000000008)]) (rest := []) B rfl ea32 EX.same ⟨yX6_need, cX6_need, 2, _, _, _, (RV.of 17 (isK_e hg33) rfl rfl q1147), q893, (c_X6_need B.ge h0 hc36), ⟨q897, q139, ⟨by decide +kernel, by decide +kernel, show Option.map (fun d => d.parameters.length) (parseMethodDescriptor yX6_need.desc) = some 1 from by decide +kernel⟩⟩, Nat.le_refl _, Nat.le_refl _, rfl⟩ (by decide) (by decide) q1144 q1145 (lw_n q1146 rfl) (by decide) rfl dX20_clause_84 ?_
    refine r_aload_n (j := 2) B dX20_clause_87 rfl rfl ?_
    refine r_aload_n (j := 0) B dX20_clause_88 rfl rfl ?_
    obtain ⟨a38, ea39, h⟩ := drf_e h
    obtain ⟨hg40, h⟩ := gd_e h
    rcases bnx_e h with ⟨b44, s42, hc43, h⟩ | ⟨r41, s42, hc43, h⟩
    · cases h
      refine r_xDx (x := ⟨"RoseThrow$OrderReader", "sum", "()LRoseThrow$Sum;"⟩) (owner := "RoseThrow$Reader") (As := []) (rest := [vr (some (sn s12))]) B rfl ea39 EX.same ⟨yX6_sum, cX6_sum, 3, _, _, _, (RV.of 17 (isK_e hg40) rfl rfl q1142), q868, (c_sumR B.ge h0 12 _ _ _ _ hc43), ⟨q869, q139, ⟨by decide +kernel, by decide +kernel, show Option.map (fun d => d.parameters.length) (parseMethodDescriptor yX6_sum.desc) = some 0 from by decide +kernel⟩⟩, Nat.le_refl _, Nat.le_refl _, rfl⟩ (by decide) (by decide) q1140 q1141 (lw_n q866 rfl) (by decide) rfl dX20_clause_89 (fun hk => ?_)
      exact r_out B ht hk rfl (by decide) rfl
    refine r_xDn (x := ⟨"RoseThrow$OrderReader", "sum", "()LRoseThrow$Sum;"⟩) (owner := "RoseThrow$Reader") (As := []) (rest := [vr (some (sn s12))]) B rfl ea39 EX.same ⟨yX6_sum, cX6_sum, 3, _, _, _, (RV.of 17 (isK_e hg40) rfl rfl q1142), q868, (c_sumR B.ge h0 12 _ _ _ _ hc43), ⟨q869, q139, ⟨by decide +kernel, by decide +kernel, show Option.map (fun d => d.parameters.length) (parseMethodDescriptor yX6_sum.desc) = some 0 from by decide +kernel⟩⟩, Nat.le_refl _, Nat.le_refl _, rfl⟩ (by decide) (by decide) q1140 q1141 (lw_n q866 rfl) (by decide) rfl dX20_clause_89 ?_
    obtain ⟨hg45, h⟩ := gd_e h
    obtain ⟨s46, e47, h⟩ := nam_e h
    refine pR15N (k := 2) B e47 rfl (fun _ => isK_e hg45) rfl (lw_n q1122 rfl) rfl rfl (Or.inl ⟨_, rfl⟩) (fun _ => h0 _) dX20_clause_92 ?_
    refine r_pick [0, 2] (L' := [(0, vr x0), (2, vr (some (sn s12)))]) rfl ?_
    exact w_X20_clause_95 B ht h0 s46 x0 (some (sn s12)) h
set_option maxHeartbeats 4000000 in
noncomputable def F_X20_clause_40 (s : St) (x0 : Option Nat) (z0 : Int32) : Option ((Unit ⊕ Nat) × St) := if z0 = (-1 : Int32) then (F_X20_clause_52 s x0 z0 (0 : Int32) x0) else (F_X20_clause_52 s x0 z0 (1 : Int32) x0)
set_option maxHeartbeats 4000000 in
theorem w_X20_clause_40 {X : CX} {E : EV} {a0 s' : St} {r : (Unit ⊕ Nat)} (B : FX X E cX20_clause 3 none "RoseThrow$OrderReader" "clause" (sn a0) (ss a0) 249 14902) (ht : ∀ x ∈ (xC X).exceptionTable.toList, False) (h0 : ∀ σ, eSk E σ) (s : St) (x0 : Option Nat) (z0 : Int32) (h : F_X20_clause_40   s x0 z0 = some (r, s')) : J X E (sn a0) (ss a0) 3 (QZ X E a0 (oX (fun v => none) 7 r) s') s 40 [(0, vr x0)] [vi z0] := by
  unfold F_X20_clause_40 at h
  refine r_istore_n (L' := [(0, vr x0), (1, vi z0)]) B dX20_clause_40 rfl (by decide) rfl rfl rfl ?_
  refine r_aload_n (j := 0) B dX20_clause_41 rfl rfl ?_
  refine r_iload_n (j := 1) B dX20_clause_42 rfl rfl ?_
  refine r_iconst (v := -1) B dX20_clause_43 (by decide) ?_
  refine r_ic_eq (tgt := 51) B dX20_clause_44 (by decide) (fun cn1 => ?_) (fun cn1 => ?_)
  · have h := ot cn1 h
    refine r_iconst (v := 0) B dX20_clause_51 (by decide) ?_
    exact w_X20_clause_52 B ht h0 s x0 z0 (0 : Int32) x0 h
  · have h := of cn1 h
    refine r_iconst (v := 1) B dX20_clause_47 (by decide) ?_
    refine r_goto (tgt := 52) B dX20_clause_48 (by decide) ?_
    exact w_X20_clause_52 B ht h0 s x0 z0 (1 : Int32) x0 h
set_option maxHeartbeats 4000000 in
noncomputable def F_X20_clause (s : St) (this : Nat)  : Option ((Unit ⊕ Nat) × St) := gd (isK s this 17) <| bnd (F_X6_is s this (some 1000000005)) fun r2 s3 => if r2 = 0 then (gd (isK s3 this 17) <| bnd (F_X6_is s3 this (some 1000000006)) fun r7 s8 => if r7 = 0 then (gd (isK s8 this 17) <| bnd (F_X6_is s8 this (some 1000000007)) fun r12 s13 => if r12 = 0 then (F_X20_clause_40 s13 (some this) (-1 : Int32)) else (F_X20_clause_40 s13 (some this) (1 : Int32))) else (F_X20_clause_40 s8 (some this) (2 : Int32))) else (F_X20_clause_40 s3 (some this) (0 : Int32))
set_option maxHeartbeats 4000000 in
theorem c_X20_clause {l : Launch} {E : EV} (hE : GE E) (h0 : ∀ σ, eSk E σ) {s s' : St} {r : (Unit ⊕ Nat)} {this : Nat}  (h : F_X20_clause  s this = some (r, s')) : CTX l E yX20_clause cX20_clause 3 none 249 14902 [vr (some this)] s (oX (fun v => none) 7 r) s' := by
  refine CTX.start hE (by decide) rfl [(0, vr (some this))] rfl (fun X hX B ht => ?_)
  skip
  have B : FX X E cX20_clause 3 none "RoseThrow$OrderReader" "clause" (sn s) (ss s) 249 14902 := B
  unfold F_X20_clause at h
  refine r_aload_n (j := 0) B dX20_clause_0 rfl rfl ?_
  refine r_ldcS 5 (o := some 1000000005) B rfl rfl dX20_clause_1 ?_
  obtain ⟨hg1, h⟩ := gd_e h
  obtain ⟨r2, s3, hc4, h⟩ := bnd_e h
  refine r_callUv (As := [vr (some 1000000005)]) (rest := []) B rfl rfl EX.same (c_X6_is B.ge h0 hc4) (cw_X6_is rfl rfl) (fun _ => RV.of 17 (isK_e hg1) rfl rfl q1103) q1101 q765 q1102 (lw_n q763 rfl) (by decide) rfl rfl dX20_clause_3 ?_
  refine r_if_eq (tgt := 13) B dX20_clause_6 (by decide) (fun cn5 => ?_) (fun cn5 => ?_)
  · have h := ot cn5 h
    refine r_aload_n (j := 0) B dX20_clause_13 rfl rfl ?_
    refine r_ldcS 6 (o := some 1000000006) B rfl rfl dX20_clause_14 ?_
    obtain ⟨hg6, h⟩ := gd_e h
    obtain ⟨r7, s8, hc9, h⟩ := bnd_e h
    refine r_callUv (As := [vr (some 1000000006)]) (rest := []) B rfl rfl EX.same (c_X6_is B.ge h0 hc9) (cw_X6_is rfl rfl) (fun _ => RV.of 17 (isK_e hg6) rfl rfl q1103) q1101 q765 q1102 (lw_n q763 rfl) (by decide) rfl rfl dX20_clause_16 ?_
    refine r_if_eq (tgt := 26) B dX20_clause_19 (by decide) (fun cn10 => ?_) (fun cn10 => ?_)
    · have h := ot cn10 h
      refine r_aload_n (j := 0) B dX20_clause_26 rfl rfl ?_
      refine r_ldcS 7 (o := some 1000000007) B rfl rfl dX20_clause_27 ?_
      obtain ⟨hg11, h⟩ := gd_e h
      obtain ⟨r12, s13, hc14, h⟩ := bnd_e h
      refine r_callUv (As := [vr (some 1000000007)]) (rest := []) B rfl rfl EX.same (c_X6_is B.ge h0 hc14) (cw_X6_is rfl rfl) (fun _ => RV.of 17 (isK_e hg11) rfl rfl q1103) q1101 q765 q1102 (lw_n q763 rfl) (by decide) rfl rfl dX20_clause_29 ?_
      refine r_if_eq (tgt := 39) B dX20_clause_32 (by decide) (fun cn15 => ?_) (fun cn15 => ?_)
      · have h := ot cn15 h
        refine r_iconst (v := -1) B dX20_clause_39 (by decide) ?_
        exact w_X20_clause_40 B ht h0 s13 (some this) (-1 : Int32) h
      · have h := of cn15 h
        refine r_iconst (v := 1) B dX20_clause_35 (by decide) ?_
        refine r_goto (tgt := 40) B dX20_clause_36 (by decide) ?_
        exact w_X20_clause_40 B ht h0 s13 (some this) (1 : Int32) h
    · have h := of cn10 h
      refine r_iconst (v := 2) B dX20_clause_22 (by decide) ?_
      refine r_goto (tgt := 40) B dX20_clause_23 (by decide) ?_
      exact w_X20_clause_40 B ht h0 s8 (some this) (2 : Int32) h
  · have h := of cn5 h
    refine r_iconst (v := 0) B dX20_clause_9 (by decide) ?_
    refine r_goto (tgt := 40) B dX20_clause_10 (by decide) ?_
    exact w_X20_clause_40 B ht h0 s3 (some this) (0 : Int32) h
set_option maxHeartbeats 4000000 in
theorem cw_X20_clause {X : CX} {fr lo : Nat} (h1 : Nat.ble (249 + 1) fr = true) (h2 : Nat.ble (22 + 14902) lo = true) : CW X fr lo yX20_clause cX20_clause 3 none 249 14902 0 := ⟨q1099, q160, ⟨by decide +kernel, by decide +kernel, by decide +kernel⟩, Nat.le_of_ble_eq_true h1, Nat.le_of_ble_eq_true h2⟩

set_option maxHeartbeats 4000000 in
noncomputable def F_X9_init (s : St) (this : Nat) (p0 : Int32) : Option (Unit × St) := gd (isK s this 8) <| nam (setI s this 0 p0) fun s2 => some ((), s2)
set_option maxHeartbeats 4000000 in
theorem c_X9_init {l : Launch} {E : EV} (hE : GE E) (h0 : ∀ σ, eSk E σ) {s s' : St} {r : Unit} {this : Nat} {p0 : Int32} (h : F_X9_init  s this p0 = some (r, s')) : CT l E yX9_init cX9_init 2 none 1 20 [vr (some this), vi p0] s none s' := by
  refine CT.start hE (by decide) rfl [(0, vr (some this)), (1, vi p0)] rfl (fun X hX B => ?_)
  skip
  have B : FX X E cX9_init 2 none "RoseThrow$Clause" "<init>" (sn s) (ss s) 1 20 := B
  unfold F_X9_init at h
  refine r_aload_n (j := 0) B dX9_init_0 rfl rfl ?_
  refine r_objInit B rfl q850 q168 q169 (by decide) (by decide) rfl dX9_init_1 ?_
  refine r_aload_n (j := 0) B dX9_init_4 rfl rfl ?_
  refine r_iload_n (j := 1) B dX9_init_5 rfl rfl ?_
  obtain ⟨hg1, h⟩ := gd_e h
  obtain ⟨s2, e3, h⟩ := nam_e h
  refine pI8F (k := 0) B e3 rfl (fun _ => isK_e hg1) rfl q851 rfl rfl rfl rfl (fun _ _ _ => rfl) rfl dX9_init_6 ?_
  exact r_vret B dX9_init_9 h
set_option maxHeartbeats 4000000 in
theorem cw_X9_init {X : CX} {fr lo : Nat} (h1 : Nat.ble (1 + 1) fr = true) (h2 : Nat.ble (21 + 20) lo = true) : CW X fr lo yX9_init cX9_init 2 none 1 20 1 := ⟨q849, q145, ⟨by decide +kernel, by decide +kernel, by decide +kernel⟩, Nat.le_of_ble_eq_true h1, Nat.le_of_ble_eq_true h2⟩

set_option maxHeartbeats 4000000 in
noncomputable def F_X7_clause_111 (s : St) (x0 : Option Nat) (x2 : Option Nat) : Option ((Unit ⊕ Nat) × St) := drf x0 fun a1 => gd (isK s a1 6) <| drf (sr s a1 7) fun a4 => gd (isK s a4 18) <| bnd (F_J2_add s a4 x2) fun r7 s8 => some (.inl (), s8)
set_option maxHeartbeats 4000000 in
theorem w_X7_clause_111 {X : CX} {E : EV} {a0 s' : St} {r : (Unit ⊕ Nat)} (B : FX X E cX7_clause 3 none "RoseThrow$LawReader" "clause" (sn a0) (ss a0) 249 14902) (ht : ∀ x ∈ (xC X).exceptionTable.toList, False) (h0 : ∀ σ, eSk E σ) (s : St) (x0 : Option Nat) (x2 : Option Nat) (h : F_X7_clause_111   s x0 x2 = some (r, s')) : J X E (sn a0) (ss a0) 3 (QZ X E a0 (oX (fun v => none) 7 r) s') s 111 [(0, vr x0), (2, vr x2)] [] := by
  unfold F_X7_clause_111 at h
  refine r_aload_n (j := 0) B dX7_clause_111 rfl rfl ?_
  obtain ⟨a1, ea2, h⟩ := drf_e h
  obtain ⟨hg3, h⟩ := gd_e h
  refine g6 (k := 7) B (vr (sr s a1 7)) ea2 (fun _ => isK_e hg3) rfl q705 rfl (fun _ => rfl) dX7_clause_112 ?_
  refine r_aload_n (j := 1) B dX7_clause_115 rfl rfl ?_
  obtain ⟨a4, ea5, h⟩ := drf_e h
  obtain ⟨hg6, h⟩ := gd_e h
  obtain ⟨r7, s8, hc9, h⟩ := bnd_e h
  refine r_callVv (As := [vr x2]) (rest := []) B rfl ea5 EX.same (c_J2_add B.ge h0 hc9) (cw_J2_add rfl rfl) (fun z => RV.of 18 ((fun _ => isK_e hg6) z) rfl rfl q1085) q1096 q1084 rfl dX7_clause_116 ?_
  refine r_pop B dX7_clause_119 rfl ?_
  cases h
  exact r_ret (r_vret B dX7_clause_120 rfl)
set_option maxHeartbeats 4000000 in
noncomputable def F_X7_clause_94 (s : St) (x0 : Option Nat) (x2 : Option Nat) : Option ((Unit ⊕ Nat) × St) := drf x0 fun a1 => gd (isK s a1 6) <| bnd (F_X6_takes s a1 (some 1000000010)) fun r4 s5 => if r4 = 0 then (F_X7_clause_111 s5 x0 x2) else (drf x0 fun a8 => gd (isK s5 a8 6) <| bnx (F_testR 12 s5 a8) (fun b14 s12 => some (.inr b14, s12)) <| fun r11 s12 => drf x2 fun a15 => gd (isK s12 a15 8) <| nam (setR s12 a15 2 r11) fun s18 => F_X7_clause_111 s18 x0 x2)
set_option maxHeartbeats 4000000 in
theorem w_X7_clause_94 {X : CX} {E : EV} {a0 s' : St} {r : (Unit ⊕ Nat)} (B : FX X E cX7_clause 3 none "RoseThrow$LawReader" "clause" (sn a0) (ss a0) 249 14902) (ht : ∀ x ∈ (xC X).exceptionTable.toList, False) (h0 : ∀ σ, eSk E σ) (s : St) (x0 : Option Nat) (x2 : Option Nat) (h : F_X7_clause_94   s x0 x2 = some (r, s')) : J X E (sn a0) (ss a0) 3 (QZ X E a0 (oX (fun v => none) 7 r) s') s 94 [(0, vr x0), (2, vr x2)] [] := by
  unfold F_X7_clause_94 at h
  refine r_aload_n (j := 0) B dX7_clause_94 rfl rfl ?_
  refine r_ldcS 45 (o := some 1000000010) B rfl rfl dX7_clause_95 ?_
  obtain ⟨a1, ea2, h⟩ := drf_e h
  obtain ⟨hg3, h⟩ := gd_e h
  obtain ⟨r4, s5, hc6, h⟩ := bnd_e h
  refine r_callUv (As := [vr (some 1000000010)]) (rest := []) B rfl ea2 EX.same (c_X6_takes B.ge h0 hc6) (cw_X6_takes rfl rfl) (fun _ => RV.of 6 (isK_e hg3) rfl rfl q1005) q1002 q899 q1003 (lw_n q1004 rfl) (by decide) rfl rfl dX7_clause_97 ?_
  refine r_if_eq (tgt := 111) B dX7_clause_100 (by decide) (fun cn7 => ?_) (fun cn7 => ?_)
  · have h := ot cn7 h
    exact w_X7_clause_111 B ht h0 s5 x0 x2 h
  · have h := of cn7 h
    refine r_aload_n (j := 1) B dX7_clause_103 rfl rfl ?_
    refine r_aload_n (j := 0) B dX7_clause_104 rfl rfl ?_
    obtain ⟨a8, ea9, h⟩ := drf_e h
    obtain ⟨hg10, h⟩ := gd_e h
    rcases bnx_e h with ⟨b14, s12, hc13, h⟩ | ⟨r11, s12, hc13, h⟩
    · cases h
      refine r_xDx (x := ⟨"RoseThrow$LawReader", "test", "()LRoseThrow$Test;"⟩) (owner := "RoseThrow$Reader") (As := []) (rest := [vr x2]) B rfl ea9 EX.same ⟨yX6_test, cX6_test, 3, _, _, _, (RV.of 6 (isK_e hg10) rfl rfl q1009), q1010, (c_testR B.ge h0 12 _ _ _ _ hc13), ⟨q1011, q139, ⟨by decide +kernel, by decide +kernel, show Option.map (fun d => d.parameters.length) (parseMethodDescriptor yX6_test.desc) = some 0 from by decide +kernel⟩⟩, Nat.le_refl _, Nat.le_refl _, rfl⟩ (by decide) (by decide) q1006 q1007 (lw_n q1008 rfl) (by decide) rfl dX7_clause_105 (fun hk => ?_)
      exact r_out B ht hk rfl (by decide) rfl
    refine r_xDn (x := ⟨"RoseThrow$LawReader", "test", "()LRoseThrow$Test;"⟩) (owner := "RoseThrow$Reader") (As := []) (rest := [vr x2]) B rfl ea9 EX.same ⟨yX6_test, cX6_test, 3, _, _, _, (RV.of 6 (isK_e hg10) rfl rfl q1009), q1010, (c_testR B.ge h0 12 _ _ _ _ hc13), ⟨q1011, q139, ⟨by decide +kernel, by decide +kernel, show Option.map (fun d => d.parameters.length) (parseMethodDescriptor yX6_test.desc) = some 0 from by decide +kernel⟩⟩, Nat.le_refl _, Nat.le_refl _, rfl⟩ (by decide) (by decide) q1006 q1007 (lw_n q1008 rfl) (by decide) rfl dX7_clause_105 ?_
    obtain ⟨a15, ea16, h⟩ := drf_e h
    obtain ⟨hg17, h⟩ := gd_e h
    obtain ⟨s18, e19, h⟩ := nam_e h
    refine pR8N (k := 2) B e19 ea16 (fun _ => isK_e hg17) rfl (lw_n q856 rfl) rfl rfl (Or.inl ⟨_, rfl⟩) (fun _ => h0 _) dX7_clause_108 ?_
    exact w_X7_clause_111 B ht h0 s18 x0 x2 h
set_option maxHeartbeats 4000000 in
noncomputable def F_X7_clause_65 (s : St) (x0 : Option Nat) (x1 : Int32) (z0 : Int32) (z1 : Option Nat) : Option ((Unit ⊕ Nat) × St) := drf z1 fun a1 => gd (isK s a1 6) <| bnx (F_X6_begins s a1 z0) (fun b7 s5 => some (.inr b7, s5)) <| fun _ s5 => drf x0 fun a8 => gd (isK s5 a8 6) <| bnd (F_X6_next s5 a8) fun _ s12 => gd (okN s12 3) <| nam (newO s12 (8, 0) 3) fun s15 => bnd (F_X9_init s15 (sn s12) x1) fun _ s18 => if x1 = (3 : Int32) then (F_X7_clause_94 s18 x0 (some (sn s12))) else (drf x0 fun a21 => gd (isK s18 a21 6) <| bnx (F_sumR 12 s18 a21) (fun b27 s25 => some (.inr b27, s25)) <| fun r24 s25 => gd (isK s25 (sn s12) 8) <| nam (setR s25 (sn s12) 1 r24) fun s29 => F_X7_clause_94 s29 x0 (some (sn s12)))
set_option maxHeartbeats 4000000 in
theorem w_X7_clause_65 {X : CX} {E : EV} {a0 s' : St} {r : (Unit ⊕ Nat)} (B : FX X E cX7_clause 3 none "RoseThrow$LawReader" "clause" (sn a0) (ss a0) 249 14902) (ht : ∀ x ∈ (xC X).exceptionTable.toList, False) (h0 : ∀ σ, eSk E σ) (s : St) (x0 : Option Nat) (x1 : Int32) (z0 : Int32) (z1 : Option Nat) (h : F_X7_clause_65   s x0 x1 z0 z1 = some (r, s')) : J X E (sn a0) (ss a0) 3 (QZ X E a0 (oX (fun v => none) 7 r) s') s 65 [(0, vr x0), (1, vi x1)] [vi z0, vr z1] := by
  unfold F_X7_clause_65 at h
  obtain ⟨a1, ea2, h⟩ := drf_e h
  obtain ⟨hg3, h⟩ := gd_e h
  rcases bnx_e h with ⟨b7, s5, hc6, h⟩ | ⟨r4, s5, hc6, h⟩
  · cases h
    refine r_xDx (x := ⟨"RoseThrow$LawReader", "begins", "(Z)V"⟩) (owner := "RoseThrow$Reader") (As := [vi z0]) (rest := []) B rfl ea2 EX.same ⟨yX6_begins, cX6_begins, 2, _, _, _, (RV.of 6 (isK_e hg3) rfl rfl q819), q820, (c_X6_begins B.ge h0 hc6), ⟨q821, q139, ⟨by decide +kernel, by decide +kernel, show Option.map (fun d => d.parameters.length) (parseMethodDescriptor yX6_begins.desc) = some 1 from by decide +kernel⟩⟩, Nat.le_refl _, Nat.le_refl _, rfl⟩ (by decide) (by decide) q816 q817 (lw_n q818 rfl) (by decide) rfl dX7_clause_65 (fun hk => ?_)
    exact r_out B ht hk rfl (by decide) rfl
  refine r_xD0 (x := ⟨"RoseThrow$LawReader", "begins", "(Z)V"⟩) (owner := "RoseThrow$Reader") (As := [vi z0]) (rest := []) B rfl ea2 EX.same ⟨yX6_begins, cX6_begins, 2, _, _, _, (RV.of 6 (isK_e hg3) rfl rfl q819), q820, (c_X6_begins B.ge h0 hc6), ⟨q821, q139, ⟨by decide +kernel, by decide +kernel, show Option.map (fun d => d.parameters.length) (parseMethodDescriptor yX6_begins.desc) = some 1 from by decide +kernel⟩⟩, Nat.le_refl _, Nat.le_refl _, rfl⟩ (by decide) (by decide) q816 q817 (lw_n q818 rfl) (by decide) rfl dX7_clause_65 ?_
  refine r_aload_n (j := 0) B dX7_clause_68 rfl rfl ?_
  obtain ⟨a8, ea9, h⟩ := drf_e h
  obtain ⟨hg10, h⟩ := gd_e h
  obtain ⟨r11, s12, hc13, h⟩ := bnd_e h
  refine r_callU0 (As := []) (rest := []) B rfl ea9 EX.same (c_X6_next B.ge h0 hc13) (cw_X6_next rfl rfl) (fun _ => RV.of 6 (isK_e hg10) rfl rfl q844) q841 q743 q842 (lw_n q843 rfl) (by decide) rfl rfl dX7_clause_69 ?_
  obtain ⟨hg14, h⟩ := gd_e h
  obtain ⟨s15, e16, h⟩ := nam_e h
  refine r_new B e16 hg14 (c := 8) rfl (by decide) rfl in_X9 tyX9_ok rfl q845 q846 q145 (fun _ => h0 _) dX7_clause_72 ?_
  refine r_dup B dX7_clause_75 rfl ?_
  refine r_iload_n (j := 1) B dX7_clause_76 rfl rfl ?_
  obtain ⟨r17, s18, hc19, h⟩ := bnd_e h
  refine r_callI (As := [vi x1]) (rest := [vr (some (sn s12))]) B rfl rfl EX.same (c_X9_init B.ge h0 hc19) (cw_X9_init rfl rfl) rfl q847 q848 rfl dX7_clause_77 ?_
  refine r_astore_n (L' := [(0, vr x0), (1, vi x1), (2, vr (some (sn s12)))]) B dX7_clause_80 rfl (by decide) rfl rfl rfl ?_
  refine r_iload_n (j := 1) B dX7_clause_81 rfl rfl ?_
  refine r_iconst (v := 3) B dX7_clause_82 (by decide) ?_
  refine r_ic_eq (tgt := 94) B dX7_clause_83 (by decide) (fun cn20 => ?_) (fun cn20 => ?_)
  · have h := ot cn20 h
    refine r_pick [0, 2] (L' := [(0, vr x0), (2, vr (some (sn s12)))]) rfl ?_
    exact w_X7_clause_94 B ht h0 s18 x0 (some (sn s12)) h
  · have h := of cn20 h
    refine r_aload_n (j := 2) B dX7_clause_86 rfl rfl ?_
    refine r_aload_n (j := 0) B dX7_clause_87 rfl rfl ?_
    obtain ⟨a21, ea22, h⟩ := drf_e h
    obtain ⟨hg23, h⟩ := gd_e h
    rcases bnx_e h with ⟨b27, s25, hc26, h⟩ | ⟨r24, s25, hc26, h⟩
    · cases h
      refine r_xDx (x := ⟨"RoseThrow$LawReader", "sum", "()LRoseThrow$Sum;"⟩) (owner := "RoseThrow$Reader") (As := []) (rest := [vr (some (sn s12))]) B rfl ea22 EX.same ⟨yX6_sum, cX6_sum, 3, _, _, _, (RV.of 6 (isK_e hg23) rfl rfl q867), q868, (c_sumR B.ge h0 12 _ _ _ _ hc26), ⟨q869, q139, ⟨by decide +kernel, by decide +kernel, show Option.map (fun d => d.parameters.length) (parseMethodDescriptor yX6_sum.desc) = some 0 from by decide +kernel⟩⟩, Nat.le_refl _, Nat.le_refl _, rfl⟩ (by decide) (by decide) q864 q865 (lw_n q866 rfl) (by decide) rfl dX7_clause_88 (fun hk => ?_)
      exact r_out B ht hk rfl (by decide) rfl
    refine r_xDn (x := ⟨"RoseThrow$LawReader", "sum", "()LRoseThrow$Sum;"⟩) (owner := "RoseThrow$Reader") (As := []) (rest := [vr (some (sn s12))]) B rfl ea22 EX.same ⟨yX6_sum, cX6_sum, 3, _, _, _, (RV.of 6 (isK_e hg23) rfl rfl q867), q868, (c_sumR B.ge h0 12 _ _ _ _ hc26), ⟨q869, q139, ⟨by decide +kernel, by decide +kernel, show Option.map (fun d => d.parameters.length) (parseMethodDescriptor yX6_sum.desc) = some 0 from by decide +kernel⟩⟩, Nat.le_refl _, Nat.le_refl _, rfl⟩ (by decide) (by decide) q864 q865 (lw_n q866 rfl) (by decide) rfl dX7_clause_88 ?_
    obtain ⟨hg28, h⟩ := gd_e h
    obtain ⟨s29, e30, h⟩ := nam_e h
    refine pR8N (k := 1) B e30 rfl (fun _ => isK_e hg28) rfl (lw_n q854 rfl) rfl rfl (Or.inl ⟨_, rfl⟩) (fun _ => h0 _) dX7_clause_91 ?_
    refine r_pick [0, 2] (L' := [(0, vr x0), (2, vr (some (sn s12)))]) rfl ?_
    exact w_X7_clause_94 B ht h0 s29 x0 (some (sn s12)) h
set_option maxHeartbeats 4000000 in
noncomputable def F_X7_clause_53 (s : St) (x0 : Option Nat) (z0 : Int32) : Option ((Unit ⊕ Nat) × St) := if z0 = (-1 : Int32) then (F_X7_clause_65 s x0 z0 (0 : Int32) x0) else (F_X7_clause_65 s x0 z0 (1 : Int32) x0)
set_option maxHeartbeats 4000000 in
theorem w_X7_clause_53 {X : CX} {E : EV} {a0 s' : St} {r : (Unit ⊕ Nat)} (B : FX X E cX7_clause 3 none "RoseThrow$LawReader" "clause" (sn a0) (ss a0) 249 14902) (ht : ∀ x ∈ (xC X).exceptionTable.toList, False) (h0 : ∀ σ, eSk E σ) (s : St) (x0 : Option Nat) (z0 : Int32) (h : F_X7_clause_53   s x0 z0 = some (r, s')) : J X E (sn a0) (ss a0) 3 (QZ X E a0 (oX (fun v => none) 7 r) s') s 53 [(0, vr x0)] [vi z0] := by
  unfold F_X7_clause_53 at h
  refine r_istore_n (L' := [(0, vr x0), (1, vi z0)]) B dX7_clause_53 rfl (by decide) rfl rfl rfl ?_
  refine r_aload_n (j := 0) B dX7_clause_54 rfl rfl ?_
  refine r_iload_n (j := 1) B dX7_clause_55 rfl rfl ?_
  refine r_iconst (v := -1) B dX7_clause_56 (by decide) ?_
  refine r_ic_eq (tgt := 64) B dX7_clause_57 (by decide) (fun cn1 => ?_) (fun cn1 => ?_)
  · have h := ot cn1 h
    refine r_iconst (v := 0) B dX7_clause_64 (by decide) ?_
    exact w_X7_clause_65 B ht h0 s x0 z0 (0 : Int32) x0 h
  · have h := of cn1 h
    refine r_iconst (v := 1) B dX7_clause_60 (by decide) ?_
    refine r_goto (tgt := 65) B dX7_clause_61 (by decide) ?_
    exact w_X7_clause_65 B ht h0 s x0 z0 (1 : Int32) x0 h
set_option maxHeartbeats 4000000 in
noncomputable def F_X7_clause (s : St) (this : Nat)  : Option ((Unit ⊕ Nat) × St) := gd (isK s this 6) <| bnd (F_X6_is s this (some 1000000027)) fun r2 s3 => if r2 = 0 then (gd (isK s3 this 6) <| bnd (F_X6_is s3 this (some 1000000028)) fun r7 s8 => if r7 = 0 then (gd (isK s8 this 6) <| bnd (F_X6_is s8 this (some 1000000029)) fun r12 s13 => if r12 = 0 then (gd (isK s13 this 6) <| bnd (F_X6_is s13 this (some 1000000030)) fun r17 s18 => if r17 = 0 then (F_X7_clause_53 s18 (some this) (-1 : Int32)) else (F_X7_clause_53 s18 (some this) (3 : Int32))) else (F_X7_clause_53 s13 (some this) (2 : Int32))) else (F_X7_clause_53 s8 (some this) (1 : Int32))) else (F_X7_clause_53 s3 (some this) (0 : Int32))
set_option maxHeartbeats 4000000 in
theorem c_X7_clause {l : Launch} {E : EV} (hE : GE E) (h0 : ∀ σ, eSk E σ) {s s' : St} {r : (Unit ⊕ Nat)} {this : Nat}  (h : F_X7_clause  s this = some (r, s')) : CTX l E yX7_clause cX7_clause 3 none 249 14902 [vr (some this)] s (oX (fun v => none) 7 r) s' := by
  refine CTX.start hE (by decide) rfl [(0, vr (some this))] rfl (fun X hX B ht => ?_)
  skip
  have B : FX X E cX7_clause 3 none "RoseThrow$LawReader" "clause" (sn s) (ss s) 249 14902 := B
  unfold F_X7_clause at h
  refine r_aload_n (j := 0) B dX7_clause_0 rfl rfl ?_
  refine r_ldcS 27 (o := some 1000000027) B rfl rfl dX7_clause_1 ?_
  obtain ⟨hg1, h⟩ := gd_e h
  obtain ⟨r2, s3, hc4, h⟩ := bnd_e h
  refine r_callUv (As := [vr (some 1000000027)]) (rest := []) B rfl rfl EX.same (c_X6_is B.ge h0 hc4) (cw_X6_is rfl rfl) (fun _ => RV.of 6 (isK_e hg1) rfl rfl q764) q761 q765 q762 (lw_n q763 rfl) (by decide) rfl rfl dX7_clause_3 ?_
  refine r_if_eq (tgt := 13) B dX7_clause_6 (by decide) (fun cn5 => ?_) (fun cn5 => ?_)
  · have h := ot cn5 h
    refine r_aload_n (j := 0) B dX7_clause_13 rfl rfl ?_
    refine r_ldcS 28 (o := some 1000000028) B rfl rfl dX7_clause_14 ?_
    obtain ⟨hg6, h⟩ := gd_e h
    obtain ⟨r7, s8, hc9, h⟩ := bnd_e h
    refine r_callUv (As := [vr (some 1000000028)]) (rest := []) B rfl rfl EX.same (c_X6_is B.ge h0 hc9) (cw_X6_is rfl rfl) (fun _ => RV.of 6 (isK_e hg6) rfl rfl q764) q761 q765 q762 (lw_n q763 rfl) (by decide) rfl rfl dX7_clause_16 ?_
    refine r_if_eq (tgt := 26) B dX7_clause_19 (by decide) (fun cn10 => ?_) (fun cn10 => ?_)
    · have h := ot cn10 h
      refine r_aload_n (j := 0) B dX7_clause_26 rfl rfl ?_
      refine r_ldcS 29 (o := some 1000000029) B rfl rfl dX7_clause_27 ?_
      obtain ⟨hg11, h⟩ := gd_e h
      obtain ⟨r12, s13, hc14, h⟩ := bnd_e h
      refine r_callUv (As := [vr (some 1000000029)]) (rest := []) B rfl rfl EX.same (c_X6_is B.ge h0 hc14) (cw_X6_is rfl rfl) (fun _ => RV.of 6 (isK_e hg11) rfl rfl q764) q761 q765 q762 (lw_n q763 rfl) (by decide) rfl rfl dX7_clause_29 ?_
      refine r_if_eq (tgt := 39) B dX7_clause_32 (by decide) (fun cn15 => ?_) (fun cn15 => ?_)
      · have h := ot cn15 h
        refine r_aload_n (j := 0) B dX7_clause_39 rfl rfl ?_
        refine r_ldcS 30 (o := some 1000000030) B rfl rfl dX7_clause_40 ?_
        obtain ⟨hg16, h⟩ := gd_e h
        obtain ⟨r17, s18, hc19, h⟩ := bnd_e h
        refine r_callUv (As := [vr (some 1000000030)]) (rest := []) B rfl rfl EX.same (c_X6_is B.ge h0 hc19) (cw_X6_is rfl rfl) (fun _ => RV.of 6 (isK_e hg16) rfl rfl q764) q761 q765 q762 (lw_n q763 rfl) (by decide) rfl rfl dX7_clause_42 ?_
        refine r_if_eq (tgt := 52) B dX7_clause_45 (by decide) (fun cn20 => ?_) (fun cn20 => ?_)
        · have h := ot cn20 h
          refine r_iconst (v := -1) B dX7_clause_52 (by decide) ?_
          exact w_X7_clause_53 B ht h0 s18 (some this) (-1 : Int32) h
        · have h := of cn20 h
          refine r_iconst (v := 3) B dX7_clause_48 (by decide) ?_
          refine r_goto (tgt := 53) B dX7_clause_49 (by decide) ?_
          exact w_X7_clause_53 B ht h0 s18 (some this) (3 : Int32) h
      · have h := of cn15 h
        refine r_iconst (v := 2) B dX7_clause_35 (by decide) ?_
        refine r_goto (tgt := 53) B dX7_clause_36 (by decide) ?_
        exact w_X7_clause_53 B ht h0 s13 (some this) (2 : Int32) h
    · have h := of cn10 h
      refine r_iconst (v := 1) B dX7_clause_22 (by decide) ?_
      refine r_goto (tgt := 53) B dX7_clause_23 (by decide) ?_
      exact w_X7_clause_53 B ht h0 s8 (some this) (1 : Int32) h
  · have h := of cn5 h
    refine r_iconst (v := 0) B dX7_clause_9 (by decide) ?_
    refine r_goto (tgt := 53) B dX7_clause_10 (by decide) ?_
    exact w_X7_clause_53 B ht h0 s3 (some this) (0 : Int32) h
set_option maxHeartbeats 4000000 in
theorem cw_X7_clause {X : CX} {fr lo : Nat} (h1 : Nat.ble (249 + 1) fr = true) (h2 : Nat.ble (22 + 14902) lo = true) : CW X fr lo yX7_clause cX7_clause 3 none 249 14902 0 := ⟨q759, q140, ⟨by decide +kernel, by decide +kernel, by decide +kernel⟩, Nat.le_of_ble_eq_true h1, Nat.le_of_ble_eq_true h2⟩

noncomputable def F_clauseD (s : St) (a : Nat) : Option ((Unit ⊕ Nat) × St) := if isK s a 17 = true then F_X20_clause s a else if isK s a 6 = true then F_X7_clause s a else none
theorem d_clause {l : Launch} {E : EV} (hE : GE E) (h0 : ∀ σ, eSk E σ) (s : St) (a : Nat) (r : Unit ⊕ Nat) (s' : St) (h : F_clauseD s a = some (r, s')) : DSP l E (⟨"RoseThrow$Reader", "clause", "()V"⟩ : MethodName) 400 20000 [] a s (oX (fun _ => none) 7 r) s' := by
  unfold F_clauseD at h
  by_cases hk : isK s a 17 = true
  · have h := ot hk h
    exact ⟨yX20_clause, cX20_clause, 3, _, _, _, (RV.of 17 (isK_e hk) rfl rfl q1097), q1098, c_X20_clause hE h0 h, ⟨q1099, q160, ⟨by decide +kernel, by decide +kernel, show Option.map (fun d => d.parameters.length) (parseMethodDescriptor yX20_clause.desc) = some 0 from by decide +kernel⟩⟩, by omega, by omega, rfl⟩
  have h := of hk h
  by_cases hk : isK s a 6 = true
  · have h := ot hk h
    exact ⟨yX7_clause, cX7_clause, 3, _, _, _, (RV.of 6 (isK_e hk) rfl rfl q757), q758, c_X7_clause hE h0 h, ⟨q759, q140, ⟨by decide +kernel, by decide +kernel, show Option.map (fun d => d.parameters.length) (parseMethodDescriptor yX7_clause.desc) = some 0 from by decide +kernel⟩⟩, by omega, by omega, rfl⟩
  have h := of hk h
  cases h

set_option maxHeartbeats 4000000 in
noncomputable def F_X6_read_8 : Nat → St → Option Nat → Option ((Unit ⊕ Nat) × St)
  | 0 => fun _ _ => none
  | n + 1 => fun s x0 => drf x0 fun a1 => gd (isRd s a1) <| bnd (F_X6_takes s a1 (some 1000000026)) fun r4 s5 => if r4 = 0 then (drf x0 fun a8 => gd (isRd s5 a8) <| drf x0 fun a11 => gd (isRd s5 a11) <| if (si s5 a11 1) ≤ (si s5 a8 3) then (some (.inl (), s5)) else (gd (okN s5 7) <| nam (newO s5 (7, 0) 7) fun s16 => drf x0 fun a18 => gd (isRd s16 a18) <| bnd (F_X8_init s16 (sn s5) (si s16 a18 3)) fun _ s22 => gd (isK s22 (sn s5) 7) <| some (.inr (sn s5), s22))) else (drf x0 fun a25 => bnx (F_clauseD s5 a25) (fun b30 s28 => some (.inr b30, s28)) <| fun _ s28 => F_X6_read_8  n s28 x0)
set_option maxHeartbeats 4000000 in
theorem w_X6_read_8 {X : CX} {E : EV} {a0 s' : St} {r : (Unit ⊕ Nat)} (B : FX X E cX6_read 1 none "RoseThrow$Reader" "read" (sn a0) (ss a0) 400 20000) (ht : ∀ x ∈ (xC X).exceptionTable.toList, False) (h0 : ∀ σ, eSk E σ) : ∀ (n : Nat) (s : St) (x0 : Option Nat), F_X6_read_8   n s x0 = some (r, s') → J X E (sn a0) (ss a0) 1 (QZ X E a0 (oX (fun v => none) 7 r) s') s 8 [(0, vr x0)] [] := by
  intro n
  induction n with
  | zero => intro s x0 h; exact absurd (show (none : Option ((Unit ⊕ Nat) × St)) = _ from h) (by simp)
  | succ n ih =>
    intro s x0 h
    rw [F_X6_read_8] at h
    refine r_aload_n (j := 0) B dX6_read_8 rfl rfl ?_
    refine r_ldcS 26 (o := some 1000000026) B rfl rfl dX6_read_9 ?_
    obtain ⟨a1, ea2, h⟩ := drf_e h
    obtain ⟨hg3, h⟩ := gd_e h
    obtain ⟨r4, s5, hc6, h⟩ := bnd_e h
    refine r_callVv (As := [vr (some 1000000026)]) (rest := []) B rfl ea2 EX.same (c_X6_takes B.ge h0 hc6) (cw_X6_takes rfl rfl) (fun _ => (isRd_e hg3).elim (fun e => RV.of 6 e rfl rfl q901) (fun e => RV.of 17 e rfl rfl q902)) q898 q899 rfl dX6_read_11 ?_
    refine r_if_eq (tgt := 24) B dX6_read_14 (by decide) (fun cn7 => ?_) (fun cn7 => ?_)
    · have h := ot cn7 h
      refine r_aload_n (j := 0) B dX6_read_24 rfl rfl ?_
      obtain ⟨a8, ea9, h⟩ := drf_e h
      obtain ⟨hg10, h⟩ := gd_e h
      refine gRd (k := 3) B (vi (si s5 a8 3)) ea9 (fun _ => isRd_e hg10) rfl q710 q710 rfl rfl rfl rfl dX6_read_25 ?_
      refine r_aload_n (j := 0) B dX6_read_28 rfl rfl ?_
      obtain ⟨a11, ea12, h⟩ := drf_e h
      obtain ⟨hg13, h⟩ := gd_e h
      refine gRd (k := 1) B (vi (si s5 a11 1)) ea12 (fun _ => isRd_e hg13) rfl q708 q708 rfl rfl rfl rfl dX6_read_29 ?_
      refine r_ic_ge (tgt := 47) B dX6_read_32 (by decide) (fun cn14 => ?_) (fun cn14 => ?_)
      · have h := ot cn14 h
        cases h
        exact r_ret (r_vret B dX6_read_47 rfl)
      · have h := of cn14 h
        obtain ⟨hg15, h⟩ := gd_e h
        obtain ⟨s16, e17, h⟩ := nam_e h
        refine r_new B e17 hg15 (c := 7) rfl (by decide) rfl in_X8 tyX8_ok rfl q822 q823 q144 (fun _ => h0 _) dX6_read_35 ?_
        refine r_dup B dX6_read_38 rfl ?_
        refine r_aload_n (j := 0) B dX6_read_39 rfl rfl ?_
        obtain ⟨a18, ea19, h⟩ := drf_e h
        obtain ⟨hg20, h⟩ := gd_e h
        refine gRd (k := 3) B (vi (si s16 a18 3)) ea19 (fun _ => isRd_e hg20) rfl q710 q710 rfl rfl rfl rfl dX6_read_40 ?_
        obtain ⟨r21, s22, hc23, h⟩ := bnd_e h
        refine r_callI (As := [vi (si s16 a18 3)]) (rest := [vr (some (sn s5))]) B rfl rfl EX.same (c_X8_init B.ge h0 hc23) (cw_X8_init rfl rfl) rfl q831 q832 rfl dX6_read_43 ?_
        obtain ⟨hg24, h⟩ := gd_e h
        cases h
        exact r_athrow B rfl dX6_read_46 (r_out B ht (isK_e hg24) rfl (by decide) rfl)
    · have h := of cn7 h
      refine r_aload_n (j := 0) B dX6_read_17 rfl rfl ?_
      obtain ⟨a25, ea26, h⟩ := drf_e h
      rcases bnx_e h with ⟨b30, s28, hc29, h⟩ | ⟨r27, s28, hc29, h⟩
      · cases h
        refine r_xDx (owner := "RoseThrow$Reader") (As := []) (rest := []) B rfl ea26 EX.same (d_clause B.ge h0 _ _ _ _ hc29) (by decide) (by decide) q754 q756 (lw_n q755 rfl) (by decide) rfl dX6_read_18 (fun hk => ?_)
        exact r_out B ht hk rfl (by decide) rfl
      refine r_xD0 (owner := "RoseThrow$Reader") (As := []) (rest := []) B rfl ea26 EX.same (d_clause B.ge h0 _ _ _ _ hc29) (by decide) (by decide) q754 q756 (lw_n q755 rfl) (by decide) rfl dX6_read_18 ?_
      refine r_goto (tgt := 8) B dX6_read_21 (by decide) ?_
      exact ih s28 x0 h
set_option maxHeartbeats 4000000 in
noncomputable def F_X6_read (s : St) (this : Nat)  : Option ((Unit ⊕ Nat) × St) := gd (isRd s this) <| bnd (F_X6_next s this) fun _ s3 => bnx (F_clauseD s3 this) (fun b8 s6 => some (.inr b8, s6)) <| fun _ s6 => F_X6_read_8 FU s6 (some this)
set_option maxHeartbeats 4000000 in
theorem c_X6_read {l : Launch} {E : EV} (hE : GE E) (h0 : ∀ σ, eSk E σ) {s s' : St} {r : (Unit ⊕ Nat)} {this : Nat}  (h : F_X6_read  s this = some (r, s')) : CTX l E yX6_read cX6_read 1 none 400 20000 [vr (some this)] s (oX (fun v => none) 7 r) s' := by
  refine CTX.start hE (by decide) rfl [(0, vr (some this))] rfl (fun X hX B ht => ?_)
  skip
  have B : FX X E cX6_read 1 none "RoseThrow$Reader" "read" (sn s) (ss s) 400 20000 := B
  unfold F_X6_read at h
  refine r_aload_n (j := 0) B dX6_read_0 rfl rfl ?_
  obtain ⟨hg1, h⟩ := gd_e h
  obtain ⟨r2, s3, hc4, h⟩ := bnd_e h
  refine r_callV0 (As := []) (rest := []) B rfl rfl EX.same (c_X6_next B.ge h0 hc4) (cw_X6_next rfl rfl) (fun _ => (isRd_e hg1).elim (fun e => RV.of 6 e rfl rfl q745) (fun e => RV.of 17 e rfl rfl q746)) q742 q743 rfl dX6_read_1 ?_
  refine r_aload_n (j := 0) B dX6_read_4 rfl rfl ?_
  rcases bnx_e h with ⟨b8, s6, hc7, h⟩ | ⟨r5, s6, hc7, h⟩
  · cases h
    refine r_xDx (owner := "RoseThrow$Reader") (As := []) (rest := []) B rfl rfl EX.same (d_clause B.ge h0 _ _ _ _ hc7) (by decide) (by decide) q754 q756 (lw_n q755 rfl) (by decide) rfl dX6_read_5 (fun hk => ?_)
    exact r_out B ht hk rfl (by decide) rfl
  refine r_xD0 (owner := "RoseThrow$Reader") (As := []) (rest := []) B rfl rfl EX.same (d_clause B.ge h0 _ _ _ _ hc7) (by decide) (by decide) q754 q756 (lw_n q755 rfl) (by decide) rfl dX6_read_5 ?_
  exact w_X6_read_8 B ht h0 FU s6 (some this) h
set_option maxHeartbeats 4000000 in
theorem cw_X6_read {X : CX} {fr lo : Nat} (h1 : Nat.ble (400 + 1) fr = true) (h2 : Nat.ble (20 + 20000) lo = true) : CW X fr lo yX6_read cX6_read 1 none 400 20000 0 := ⟨q741, q139, ⟨by decide +kernel, by decide +kernel, by decide +kernel⟩, Nat.le_of_ble_eq_true h1, Nat.le_of_ble_eq_true h2⟩

set_option maxHeartbeats 4000000 in
noncomputable def F_X0_reads (s : St) (p0 : Option Nat) : Option (Int32 × St) := drf p0 fun a1 => gd (isRd s a1) <| bnx (F_X6_read s a1) (fun b7 s5 => gp (SkC s5) <| gd (isK s5 b7 7) <| nam (setI s5 0 12 (si s5 b7 6)) fun s11 => some ((0 : Int32), s11)) <| fun _ s5 => gp (SkC s5) <| nam (setI s5 0 12 (-1 : Int32)) fun s13 => some ((1 : Int32), s13)
set_option maxHeartbeats 4000000 in
theorem c_X0_reads {l : Launch} {E : EV} (hE : GE E) (hS : ∀ σ, eSk E σ ↔ SkC σ) {s s' : St} {r : Int32} {p0 : Option Nat} (h : F_X0_reads  s p0 = some (r, s')) : CTW l E yX0_reads cX0_reads 3 (some .boolean) [(0, 4, 7, 190)] 401 20020 [vr (some 0), vr p0] s (some (vi r)) s' := by
  refine CT.startW hE (by decide) rfl [(0, vr (some 0)), (1, vr p0)] rfl (fun X hX B ht => ?_)
  skip
  have B : FX X E cX0_reads 3 (some .boolean) "RoseThrow" "reads" (sn s) (ss s) 401 20020 := B
  unfold F_X0_reads at h
  refine r_aload_n (j := 1) B dX0_reads_0 rfl rfl ?_
  obtain ⟨a1, ea2, h⟩ := drf_e h
  obtain ⟨hg3, h⟩ := gd_e h
  rcases bnx_e h with ⟨b7, s5, hc6, h⟩ | ⟨r4, s5, hc6, h⟩
  · obtain ⟨hg9, h⟩ := gp_e h
    refine r_xVx (As := []) (rest := []) B rfl ea2 (EX.noSk (fun _ => (hS _).2 hg9)) (c_X6_read B.ge.noSk (fun _ => trivial) hc6) (cw_X6_read rfl rfl) (fun _ => (isRd_e hg3).elim (fun e => RV.of 6 e rfl rfl q739) (fun e => RV.of 17 e rfl rfl q740)) q736 q737 rfl dX0_reads_1 (fun hk => ?_)
    refine r_catch B ht [] (⟨0, 4, 7, 190⟩ : ExceptionTableEntry) [] rfl (fun z hz => by cases hz) (by decide) (by decide) hk rfl (by decide) q735 (lw_n q824 rfl) ?_
    refine r_astore_n (L' := [(0, vr (some 0)), (1, vr p0), (2, vr (some b7))]) B dX0_reads_7 rfl (by decide) rfl rfl rfl ?_
    refine r_aload_n (j := 0) B dX0_reads_8 rfl rfl ?_
    refine r_aload_n (j := 2) B dX0_reads_9 rfl rfl ?_
    obtain ⟨hg10, h⟩ := gd_e h
    refine g7N (k := 6) B (vi (si s5 b7 6)) rfl (fun _ => isK_e hg10) rfl (lw_n q836 rfl) rfl (fun _ => rfl) dX0_reads_10 ?_
    obtain ⟨s11, e12, h⟩ := nam_e h
    refine pI0 (k := 12) B e12 rfl (fun z => by rw [((hS _).1 z).1 0 (by decide)]; rfl) rfl q368 rfl rfl (fun _ _ _ => rfl) rfl dX0_reads_13 ?_
    refine r_iconst (v := 0) B dX0_reads_16 (by decide) ?_
    exact r_zret B dX0_reads_17 (by decide) h
  obtain ⟨hg8, h⟩ := gp_e h
  refine r_xV0 (As := []) (rest := []) B rfl ea2 (EX.noSk (fun _ => (hS _).2 hg8)) (c_X6_read B.ge.noSk (fun _ => trivial) hc6) (cw_X6_read rfl rfl) (fun _ => (isRd_e hg3).elim (fun e => RV.of 6 e rfl rfl q739) (fun e => RV.of 17 e rfl rfl q740)) q736 q737 rfl dX0_reads_1 ?_
  refine r_goto (tgt := 18) B dX0_reads_4 (by decide) ?_
  refine r_aload_n (j := 0) B dX0_reads_18 rfl rfl ?_
  refine r_iconst (v := -1) B dX0_reads_19 (by decide) ?_
  obtain ⟨s13, e14, h⟩ := nam_e h
  refine pI0 (k := 12) B e14 rfl (fun z => by rw [((hS _).1 z).1 0 (by decide)]; rfl) rfl q368 rfl rfl (fun _ _ _ => rfl) rfl dX0_reads_20 ?_
  refine r_iconst (v := 1) B dX0_reads_23 (by decide) ?_
  exact r_zret B dX0_reads_24 (by decide) h
set_option maxHeartbeats 4000000 in
theorem cw_X0_reads {X : CX} {fr lo : Nat} (h1 : Nat.ble (401 + 1) fr = true) (h2 : Nat.ble (22 + 20020) lo = true) : CWW X fr lo yX0_reads cX0_reads 3 (some .boolean) [(0, 4, 7, 190)] 401 20020 1 := ⟨q734, q126, ⟨by decide +kernel, by decide +kernel, by decide +kernel⟩, Nat.le_of_ble_eq_true h1, Nat.le_of_ble_eq_true h2⟩

set_option maxHeartbeats 4000000 in
noncomputable def F_X19_init (s : St) (this : Nat) (p0 : Option Nat) : Option (Unit × St) := gd (isK s this 16) <| nam (setR s this 0 p0) fun s2 => some ((), s2)
set_option maxHeartbeats 4000000 in
theorem c_X19_init {l : Launch} {E : EV} (hE : GE E) (h0 : ∀ σ, eSk E σ) {s s' : St} {r : Unit} {this : Nat} {p0 : Option Nat} (h : F_X19_init  s this p0 = some (r, s')) : CT l E yX19_init cX19_init 2 none 1 20 [vr (some this), vr p0] s none s' := by
  refine CT.start hE (by decide) rfl [(0, vr (some this)), (1, vr p0)] rfl (fun X hX B => ?_)
  skip
  have B : FX X E cX19_init 2 none "RoseThrow$Law" "<init>" (sn s) (ss s) 1 20 := B
  unfold F_X19_init at h
  refine r_aload_n (j := 0) B dX19_init_0 rfl rfl ?_
  refine r_objInit B rfl q1162 q168 q169 (by decide) (by decide) rfl dX19_init_1 ?_
  refine r_aload_n (j := 0) B dX19_init_4 rfl rfl ?_
  refine r_aload_n (j := 1) B dX19_init_5 rfl rfl ?_
  obtain ⟨hg1, h⟩ := gd_e h
  obtain ⟨s2, e3, h⟩ := nam_e h
  refine pR16F (k := 0) B e3 rfl (fun _ => isK_e hg1) rfl q1163 rfl rfl rfl rfl (Or.inl ⟨_, rfl⟩) (fun _ => h0 _) dX19_init_6 ?_
  exact r_vret B dX19_init_9 h
set_option maxHeartbeats 4000000 in
theorem cw_X19_init {X : CX} {fr lo : Nat} (h1 : Nat.ble (1 + 1) fr = true) (h2 : Nat.ble (21 + 20) lo = true) : CW X fr lo yX19_init cX19_init 2 none 1 20 1 := ⟨q1161, q159, ⟨by decide +kernel, by decide +kernel, by decide +kernel⟩, Nat.le_of_ble_eq_true h1, Nat.le_of_ble_eq_true h2⟩

set_option maxHeartbeats 4000000 in
noncomputable def F_X0_law (s : St)  : Option (Int32 × St) := nam (setI s 0 11 (0 : Int32)) fun s1 => bnd (F_J2_size s1 10) fun r3 s4 => gp (SkC s4) <| if r3 = (6 : Int32) then (bnd (F_X0_refuse s4 (-5 : Int32)) fun r43 s44 => some (r43, s44)) else (gd (okN s4 8) <| nam (newO s4 (6, 0) 8) fun s9 => gp (SkC s9) <| bnd (F_X7_init s9 (sn s4) (some 19) (si s 0 11)) fun _ s13 => gp (SkC s13) <| bnd (F_X0_reads s13 (some (sn s4))) fun r16 s17 => if r16 = 0 then (bnd (F_X0_refuse s17 (-6 : Int32)) fun r40 s41 => some (r40, s41)) else (gd (okN s17 1) <| nam (newO s17 (16, 0) 1) fun s21 => gp (SkC s21) <| gd (isK s21 (sn s4) 6) <| bnd (F_X19_init s21 (sn s17) (sr s21 (sn s4) 7)) fun _ s26 => gp (SkC s26) <| bnd (F_J2_add s26 10 (some (sn s17))) fun r29 s30 => gp (SkC s30) <| bnd (F_J2_size s30 10) fun r33 s34 => gp (SkC s34) <| bnd (F_X0_done s34 (r33 - (1 : Int32))) fun r37 s38 => some (r37, s38)))
set_option maxHeartbeats 4000000 in
theorem c_X0_law {l : Launch} {E : EV} (hE : GE E) (hS : ∀ σ, eSk E σ ↔ SkC σ) {s s' : St} {r : Int32}  (h : F_X0_law  s  = some (r, s')) : CT l E yX0_law cX0_law 3 (some .int) 402 20042 [vr (some 0)] s (some (vi r)) s' := by
  refine CT.start hE (by decide) rfl [(0, vr (some 0))] rfl (fun X hX B => ?_)
  skip
  have B : FX X E cX0_law 3 (some .int) "RoseThrow" "law" (sn s) (ss s) 402 20042 := B
  unfold F_X0_law at h
  refine r_aload_n (j := 0) B dX0_law_0 rfl rfl ?_
  refine g0 (k := 11) B (vi (si s 0 11)) rfl (fun z => by rw [((hS _).1 z).1 0 (by decide)]; rfl) rfl q367 rfl (fun _ => rfl) dX0_law_1 ?_
  refine r_istore_n (L' := [(0, vr (some 0)), (1, vi (si s 0 11))]) B dX0_law_4 rfl (by decide) rfl rfl rfl ?_
  refine r_aload_n (j := 0) B dX0_law_5 rfl rfl ?_
  refine r_iconst (v := 0) B dX0_law_6 (by decide) ?_
  obtain ⟨s1, e2, h⟩ := nam_e h
  refine pI0 (k := 11) B e2 rfl (fun z => by rw [((hS _).1 z).1 0 (by decide)]; rfl) rfl q367 rfl rfl (fun _ _ _ => rfl) rfl dX0_law_7 ?_
  refine r_aload_n (j := 0) B dX0_law_10 rfl rfl ?_
  refine g0 (k := 2) B (vr (some 2)) rfl (fun z => by rw [((hS _).1 z).1 0 (by decide)]; rfl) rfl q358 rfl (fun z => by rw [((hS _).1 z).2 _ (List.mem_of_getElem? (i := 1) rfl)]; rfl) dX0_law_11 ?_
  refine g1N (k := 7) B (vr (some 10)) rfl (fun z => by rw [((hS _).1 z).1 2 (by decide)]; rfl) rfl (lw_n q220 rfl) rfl (fun z => by rw [((hS _).1 z).2 _ (List.mem_of_getElem? (i := 24) rfl)]; rfl) dX0_law_14 ?_
  obtain ⟨r3, s4, hc5, h⟩ := bnd_e h
  obtain ⟨hg6, h⟩ := gp_e h
  refine r_callVv (As := []) (rest := []) B rfl rfl (EX.noSk (fun _ => (hS _).2 hg6)) (c_J2_size B.ge.noSk (fun _ => trivial) hc5) (cw_J2_size rfl rfl) (fun z => RV.of 18 ((fun z => by rw [((hS _).1 z).1 10 (by decide)]; rfl) z) rfl rfl q606) q693 q605 rfl dX0_law_17 ?_
  refine r_bipush (v := 6) B dX0_law_20 (by decide) ?_
  refine r_ic_ne (tgt := 32) B dX0_law_22 (by decide) (fun cn7 => ?_) (fun cn7 => ?_)
  · have h := of cn7 h
    obtain ⟨hg8, h⟩ := gd_e h
    obtain ⟨s9, e10, h⟩ := nam_e h
    obtain ⟨hg11, h⟩ := gp_e h
    refine r_new B e10 hg8 (c := 6) rfl (by decide) rfl in_X7 tyX7_ok rfl q694 q695 q140 (fun _ => (hS _).2 hg11) dX0_law_32 ?_
    refine r_dup B dX0_law_35 rfl ?_
    refine r_aload_n (j := 0) B dX0_law_36 rfl rfl ?_
    refine g0 (k := 10) B (vr (some 19)) rfl (fun z => by rw [((hS _).1 z).1 0 (by decide)]; rfl) rfl q366 rfl (fun z => by rw [((hS _).1 z).2 _ (List.mem_of_getElem? (i := 9) rfl)]; rfl) dX0_law_37 ?_
    refine r_iload_n (j := 1) B dX0_law_40 rfl rfl ?_
    obtain ⟨r12, s13, hc14, h⟩ := bnd_e h
    obtain ⟨hg15, h⟩ := gp_e h
    refine r_callI (As := [vr (some 19), vi (si s 0 11)]) (rest := [vr (some (sn s4))]) B rfl rfl (EX.noSk (fun _ => (hS _).2 hg15)) (c_X7_init B.ge.noSk (fun _ => trivial) hc14) (cw_X7_init rfl rfl) rfl q696 q697 rfl dX0_law_41 ?_
    refine r_astore_n (L' := [(0, vr (some 0)), (1, vi (si s 0 11)), (2, vr (some (sn s4)))]) B dX0_law_44 rfl (by decide) rfl rfl rfl ?_
    refine r_aload_n (j := 0) B dX0_law_45 rfl rfl ?_
    refine r_aload_n (j := 2) B dX0_law_46 rfl rfl ?_
    obtain ⟨r16, s17, hc18, h⟩ := bnd_e h
    refine r_callVW (As := [vr (some (sn s4))]) (rest := []) B rfl rfl EX.same (c_X0_reads B.ge hS hc18) (cw_X0_reads rfl rfl) (fun z => RV.of 0 (by rw [((hS _).1 z).1 0 (by decide)]; rfl) rfl rfl qs14) q731 q733 rfl dX0_law_47 ?_
    refine r_if_ne (tgt := 60) B dX0_law_50 (by decide) (fun cn19 => ?_) (fun cn19 => ?_)
    · have h := of cn19 h
      refine r_aload_n (j := 0) B dX0_law_60 rfl rfl ?_
      refine g0 (k := 2) B (vr (some 2)) rfl (fun z => by rw [((hS _).1 z).1 0 (by decide)]; rfl) rfl q358 rfl (fun z => by rw [((hS _).1 z).2 _ (List.mem_of_getElem? (i := 1) rfl)]; rfl) dX0_law_61 ?_
      refine g1N (k := 7) B (vr (some 10)) rfl (fun z => by rw [((hS _).1 z).1 2 (by decide)]; rfl) rfl (lw_n q220 rfl) rfl (fun z => by rw [((hS _).1 z).2 _ (List.mem_of_getElem? (i := 24) rfl)]; rfl) dX0_law_64 ?_
      obtain ⟨hg20, h⟩ := gd_e h
      obtain ⟨s21, e22, h⟩ := nam_e h
      obtain ⟨hg23, h⟩ := gp_e h
      refine r_new B e22 hg20 (c := 16) rfl (by decide) rfl in_X19 tyX19_ok rfl q598 q1158 q159 (fun _ => (hS _).2 hg23) dX0_law_67 ?_
      refine r_dup B dX0_law_70 rfl ?_
      refine r_aload_n (j := 2) B dX0_law_71 rfl rfl ?_
      obtain ⟨hg24, h⟩ := gd_e h
      refine g6N (k := 7) B (vr (sr s21 (sn s4) 7)) rfl (fun _ => isK_e hg24) rfl (lw_n q706 rfl) rfl (fun _ => rfl) dX0_law_72 ?_
      obtain ⟨r25, s26, hc27, h⟩ := bnd_e h
      obtain ⟨hg28, h⟩ := gp_e h
      refine r_callI (As := [vr (sr s21 (sn s4) 7)]) (rest := [vr (some (sn s17)), vr (some 10)]) B rfl rfl (EX.noSk (fun _ => (hS _).2 hg28)) (c_X19_init B.ge.noSk (fun _ => trivial) hc27) (cw_X19_init rfl rfl) rfl q1159 q1160 rfl dX0_law_75 ?_
      obtain ⟨r29, s30, hc31, h⟩ := bnd_e h
      obtain ⟨hg32, h⟩ := gp_e h
      refine r_callVv (As := [vr (some (sn s17))]) (rest := []) B rfl rfl (EX.noSk (fun _ => (hS _).2 hg32)) (c_J2_add B.ge.noSk (fun _ => trivial) hc31) (cw_J2_add rfl rfl) (fun z => RV.of 18 ((fun z => by rw [((hS _).1 z).1 10 (by decide)]; rfl) z) rfl rfl q1085) q1167 q1084 rfl dX0_law_78 ?_
      refine r_pop B dX0_law_81 rfl ?_
      refine r_aload_n (j := 0) B dX0_law_82 rfl rfl ?_
      refine r_aload_n (j := 0) B dX0_law_83 rfl rfl ?_
      refine g0 (k := 2) B (vr (some 2)) rfl (fun z => by rw [((hS _).1 z).1 0 (by decide)]; rfl) rfl q358 rfl (fun z => by rw [((hS _).1 z).2 _ (List.mem_of_getElem? (i := 1) rfl)]; rfl) dX0_law_84 ?_
      refine g1N (k := 7) B (vr (some 10)) rfl (fun z => by rw [((hS _).1 z).1 2 (by decide)]; rfl) rfl (lw_n q220 rfl) rfl (fun z => by rw [((hS _).1 z).2 _ (List.mem_of_getElem? (i := 24) rfl)]; rfl) dX0_law_87 ?_
      obtain ⟨r33, s34, hc35, h⟩ := bnd_e h
      obtain ⟨hg36, h⟩ := gp_e h
      refine r_callVv (As := []) (rest := [vr (some 0)]) B rfl rfl (EX.noSk (fun _ => (hS _).2 hg36)) (c_J2_size B.ge.noSk (fun _ => trivial) hc35) (cw_J2_size rfl rfl) (fun z => RV.of 18 ((fun z => by rw [((hS _).1 z).1 10 (by decide)]; rfl) z) rfl rfl q606) q693 q605 rfl dX0_law_90 ?_
      refine r_iconst (v := 1) B dX0_law_93 (by decide) ?_
      refine r_isub B dX0_law_94 ?_
      obtain ⟨r37, s38, hc39, h⟩ := bnd_e h
      refine r_callVv (As := [vi (r33 - (1 : Int32))]) (rest := []) B rfl rfl EX.same (c_X0_done B.ge hS hc39) (cw_X0_done rfl rfl) (fun z => RV.of 0 (by rw [((hS _).1 z).1 0 (by decide)]; rfl) rfl rfl qs3) q533 q535 rfl dX0_law_95 ?_
      exact r_iret B dX0_law_98 h
    · have h := ot cn19 h
      refine r_aload_n (j := 0) B dX0_law_53 rfl rfl ?_
      refine r_bipush (v := -6) B dX0_law_54 (by decide) ?_
      obtain ⟨r40, s41, hc42, h⟩ := bnd_e h
      refine r_callVv (As := [vi (-6 : Int32)]) (rest := []) B rfl rfl EX.same (c_X0_refuse B.ge hS hc42) (cw_X0_refuse rfl rfl) (fun z => RV.of 0 (by rw [((hS _).1 z).1 0 (by decide)]; rfl) rfl rfl qs1) q448 q450 rfl dX0_law_56 ?_
      exact r_iret B dX0_law_59 h
  · have h := ot cn7 h
    refine r_aload_n (j := 0) B dX0_law_25 rfl rfl ?_
    refine r_bipush (v := -5) B dX0_law_26 (by decide) ?_
    obtain ⟨r43, s44, hc45, h⟩ := bnd_e h
    refine r_callVv (As := [vi (-5 : Int32)]) (rest := []) B rfl rfl EX.same (c_X0_refuse B.ge hS hc45) (cw_X0_refuse rfl rfl) (fun z => RV.of 0 (by rw [((hS _).1 z).1 0 (by decide)]; rfl) rfl rfl qs1) q448 q450 rfl dX0_law_28 ?_
    exact r_iret B dX0_law_31 h
set_option maxHeartbeats 4000000 in
theorem cw_X0_law {X : CX} {fr lo : Nat} (h1 : Nat.ble (402 + 1) fr = true) (h2 : Nat.ble (22 + 20042) lo = true) : CW X fr lo yX0_law cX0_law 3 (some .int) 402 20042 0 := ⟨q692, q126, ⟨by decide +kernel, by decide +kernel, by decide +kernel⟩, Nat.le_of_ble_eq_true h1, Nat.le_of_ble_eq_true h2⟩

set_option maxHeartbeats 4000000 in
noncomputable def F_X0_fault (s : St)  : Option (Int32 × St) := some ((si s 0 12), s)
set_option maxHeartbeats 4000000 in
theorem c_X0_fault {l : Launch} {E : EV} (hE : GE E) (hS : ∀ σ, eSk E σ ↔ SkC σ) {s s' : St} {r : Int32}  (h : F_X0_fault  s  = some (r, s')) : CT l E yX0_fault cX0_fault 1 (some .int) 0 0 [vr (some 0)] s (some (vi r)) s' := by
  refine CT.start hE (by decide) rfl [(0, vr (some 0))] rfl (fun X hX B => ?_)
  skip
  have B : FX X E cX0_fault 1 (some .int) "RoseThrow" "fault" (sn s) (ss s) 0 0 := B
  unfold F_X0_fault at h
  refine r_aload_n (j := 0) B dX0_fault_0 rfl rfl ?_
  refine g0 (k := 12) B (vi (si s 0 12)) rfl (fun z => by rw [((hS _).1 z).1 0 (by decide)]; rfl) rfl q368 rfl (fun _ => rfl) dX0_fault_1 ?_
  exact r_iret B dX0_fault_4 h
set_option maxHeartbeats 4000000 in
theorem cw_X0_fault {X : CX} {fr lo : Nat} (h1 : Nat.ble (0 + 1) fr = true) (h2 : Nat.ble (20 + 0) lo = true) : CW X fr lo yX0_fault cX0_fault 1 (some .int) 0 0 0 := ⟨q1171, q126, ⟨by decide +kernel, by decide +kernel, by decide +kernel⟩, Nat.le_of_ble_eq_true h1, Nat.le_of_ble_eq_true h2⟩

set_option maxHeartbeats 4000000 in
noncomputable def F_X0_stopped (s : St)  : Option (Int32 × St) := some ((si s 0 14), s)
set_option maxHeartbeats 4000000 in
theorem c_X0_stopped {l : Launch} {E : EV} (hE : GE E) (hS : ∀ σ, eSk E σ ↔ SkC σ) {s s' : St} {r : Int32}  (h : F_X0_stopped  s  = some (r, s')) : CT l E yX0_stopped cX0_stopped 1 (some .int) 0 0 [vr (some 0)] s (some (vi r)) s' := by
  refine CT.start hE (by decide) rfl [(0, vr (some 0))] rfl (fun X hX B => ?_)
  skip
  have B : FX X E cX0_stopped 1 (some .int) "RoseThrow" "stopped" (sn s) (ss s) 0 0 := B
  unfold F_X0_stopped at h
  refine r_aload_n (j := 0) B dX0_stopped_0 rfl rfl ?_
  refine g0 (k := 14) B (vi (si s 0 14)) rfl (fun z => by rw [((hS _).1 z).1 0 (by decide)]; rfl) rfl q370 rfl (fun _ => rfl) dX0_stopped_1 ?_
  exact r_iret B dX0_stopped_4 h
set_option maxHeartbeats 4000000 in
theorem cw_X0_stopped {X : CX} {fr lo : Nat} (h1 : Nat.ble (0 + 1) fr = true) (h2 : Nat.ble (20 + 0) lo = true) : CW X fr lo yX0_stopped cX0_stopped 1 (some .int) 0 0 0 := ⟨q1175, q126, ⟨by decide +kernel, by decide +kernel, by decide +kernel⟩, Nat.le_of_ble_eq_true h1, Nat.le_of_ble_eq_true h2⟩

set_option maxHeartbeats 4000000 in
noncomputable def F_X0_force_32 (s : St) (x1 : Int32) : Option (Int32 × St) := nam (setI s 2 10 x1) fun s1 => bnd (F_X0_done s1 (0 : Int32)) fun r3 s4 => some (r3, s4)
set_option maxHeartbeats 4000000 in
theorem w_X0_force_32 {X : CX} {E : EV} {a0 s' : St} {r : Int32} (B : FX X E cX0_force 2 (some .int) "RoseThrow" "force" (sn a0) (ss a0) 1 22) (hS : ∀ σ, eSk E σ ↔ SkC σ) (s : St) (x1 : Int32) (h : F_X0_force_32   s x1 = some (r, s')) : J X E (sn a0) (ss a0) 2 (QR X E a0 (some (vi r)) s') s 32 [(0, vr (some 0)), (1, vi x1)] [] := by
  unfold F_X0_force_32 at h
  refine r_aload_n (j := 0) B dX0_force_32 rfl rfl ?_
  refine g0 (k := 2) B (vr (some 2)) rfl (fun z => by rw [((hS _).1 z).1 0 (by decide)]; rfl) rfl q358 rfl (fun z => by rw [((hS _).1 z).2 _ (List.mem_of_getElem? (i := 1) rfl)]; rfl) dX0_force_33 ?_
  refine r_iload_n (j := 1) B dX0_force_36 rfl rfl ?_
  obtain ⟨s1, e2, h⟩ := nam_e h
  refine pI1N (k := 10) B e2 rfl (fun z => by rw [((hS _).1 z).1 2 (by decide)]; rfl) rfl (lw_n q226 rfl) rfl rfl (fun _ _ _ => rfl) rfl dX0_force_37 ?_
  refine r_aload_n (j := 0) B dX0_force_40 rfl rfl ?_
  refine r_iconst (v := 0) B dX0_force_41 (by decide) ?_
  obtain ⟨r3, s4, hc5, h⟩ := bnd_e h
  refine r_callVv (As := [vi (0 : Int32)]) (rest := []) B rfl rfl EX.same (c_X0_done B.ge hS hc5) (cw_X0_done rfl rfl) (fun z => RV.of 0 (by rw [((hS _).1 z).1 0 (by decide)]; rfl) rfl rfl qs3) q533 q535 rfl dX0_force_42 ?_
  exact r_iret B dX0_force_45 h
set_option maxHeartbeats 4000000 in
noncomputable def F_X0_force (s : St) (p0 : Int32) : Option (Int32 × St) := if p0 = (-1 : Int32) then (F_X0_force_32 s p0) else (bnd (F_J2_size s 10) fun r2 s3 => gp (SkC s3) <| bnd (F_X0_in s3 p0 (0 : Int32) (r2 - (1 : Int32))) fun r6 s7 => if r6 = 0 then (bnd (F_X0_refuse s7 (-2 : Int32)) fun r10 s11 => some (r10, s11)) else (F_X0_force_32 s7 p0))
set_option maxHeartbeats 4000000 in
theorem c_X0_force {l : Launch} {E : EV} (hE : GE E) (hS : ∀ σ, eSk E σ ↔ SkC σ) {s s' : St} {r : Int32} {p0 : Int32} (h : F_X0_force  s p0 = some (r, s')) : CT l E yX0_force cX0_force 2 (some .int) 1 22 [vr (some 0), vi p0] s (some (vi r)) s' := by
  refine CT.start hE (by decide) rfl [(0, vr (some 0)), (1, vi p0)] rfl (fun X hX B => ?_)
  skip
  have B : FX X E cX0_force 2 (some .int) "RoseThrow" "force" (sn s) (ss s) 1 22 := B
  unfold F_X0_force at h
  refine r_iload_n (j := 1) B dX0_force_0 rfl rfl ?_
  refine r_iconst (v := -1) B dX0_force_1 (by decide) ?_
  refine r_ic_eq (tgt := 32) B dX0_force_2 (by decide) (fun cn1 => ?_) (fun cn1 => ?_)
  · have h := ot cn1 h
    exact w_X0_force_32 B hS s p0 h
  · have h := of cn1 h
    refine r_iload_n (j := 1) B dX0_force_5 rfl rfl ?_
    refine r_iconst (v := 0) B dX0_force_6 (by decide) ?_
    refine r_aload_n (j := 0) B dX0_force_7 rfl rfl ?_
    refine g0 (k := 2) B (vr (some 2)) rfl (fun z => by rw [((hS _).1 z).1 0 (by decide)]; rfl) rfl q358 rfl (fun z => by rw [((hS _).1 z).2 _ (List.mem_of_getElem? (i := 1) rfl)]; rfl) dX0_force_8 ?_
    refine g1N (k := 7) B (vr (some 10)) rfl (fun z => by rw [((hS _).1 z).1 2 (by decide)]; rfl) rfl (lw_n q220 rfl) rfl (fun z => by rw [((hS _).1 z).2 _ (List.mem_of_getElem? (i := 24) rfl)]; rfl) dX0_force_11 ?_
    obtain ⟨r2, s3, hc4, h⟩ := bnd_e h
    obtain ⟨hg5, h⟩ := gp_e h
    refine r_callVv (As := []) (rest := [vi (0 : Int32), vi p0]) B rfl rfl (EX.noSk (fun _ => (hS _).2 hg5)) (c_J2_size B.ge.noSk (fun _ => trivial) hc4) (cw_J2_size rfl rfl) (fun z => RV.of 18 ((fun z => by rw [((hS _).1 z).1 10 (by decide)]; rfl) z) rfl rfl q606) q693 q605 rfl dX0_force_14 ?_
    refine r_iconst (v := 1) B dX0_force_17 (by decide) ?_
    refine r_isub B dX0_force_18 ?_
    obtain ⟨r6, s7, hc8, h⟩ := bnd_e h
    refine r_callSv (As := [vi p0, vi (0 : Int32), vi (r2 - (1 : Int32))]) (rest := []) B rfl EX.same (c_X0_in B.ge hS hc8) (cw_X0_in rfl rfl) q445 q446 rfl dX0_force_19 ?_
    refine r_if_ne (tgt := 32) B dX0_force_22 (by decide) (fun cn9 => ?_) (fun cn9 => ?_)
    · have h := of cn9 h
      exact w_X0_force_32 B hS s7 p0 h
    · have h := ot cn9 h
      refine r_aload_n (j := 0) B dX0_force_25 rfl rfl ?_
      refine r_bipush (v := -2) B dX0_force_26 (by decide) ?_
      obtain ⟨r10, s11, hc12, h⟩ := bnd_e h
      refine r_callVv (As := [vi (-2 : Int32)]) (rest := []) B rfl rfl EX.same (c_X0_refuse B.ge hS hc12) (cw_X0_refuse rfl rfl) (fun z => RV.of 0 (by rw [((hS _).1 z).1 0 (by decide)]; rfl) rfl rfl qs1) q448 q450 rfl dX0_force_28 ?_
      exact r_iret B dX0_force_31 h
set_option maxHeartbeats 4000000 in
theorem cw_X0_force {X : CX} {fr lo : Nat} (h1 : Nat.ble (1 + 1) fr = true) (h2 : Nat.ble (21 + 22) lo = true) : CW X fr lo yX0_force cX0_force 2 (some .int) 1 22 1 := ⟨q1179, q126, ⟨by decide +kernel, by decide +kernel, by decide +kernel⟩, Nat.le_of_ble_eq_true h1, Nat.le_of_ble_eq_true h2⟩

set_option maxHeartbeats 4000000 in
noncomputable def F_X0_near (s : St) (p0 : Int64) (p1 : Int32) (p2 : Int32) : Option (Int32 × St) := some ((((if (if p0 < ((p2).toInt64) then p0 else ((p2).toInt64)) < ((p1).toInt64) then ((p1).toInt64) else (if p0 < ((p2).toInt64) then p0 else ((p2).toInt64)))).toInt32), s)
set_option maxHeartbeats 4000000 in
theorem c_X0_near {l : Launch} {E : EV} (hE : GE E) (hS : ∀ σ, eSk E σ ↔ SkC σ) {s s' : St} {r : Int32} {p0 : Int64} {p1 : Int32} {p2 : Int32} (h : F_X0_near  s p0 p1 p2 = some (r, s')) : CT l E yX0_near cX0_near 4 (some .int) 1 60 [vl p0, vi p1, vi p2] s (some (vi r)) s' := by
  refine CT.start hE (by decide) rfl [(0, vl p0), (2, vi p1), (3, vi p2)] rfl (fun X hX B => ?_)
  skip
  have B : FX X E cX0_near 4 (some .int) "RoseThrow" "near" (sn s) (ss s) 1 60 := B
  unfold F_X0_near at h
  refine r_iload_n (j := 1) B dX0_near_0 rfl rfl ?_
  refine r_i2l B dX0_near_1 ?_
  refine r_iload_n (j := 2) B dX0_near_2 rfl rfl ?_
  refine r_i2l B dX0_near_3 ?_
  refine r_lload_n (j := 0) B dX0_near_4 rfl rfl ?_
  refine r_lmin B q1191 q1192 q155 q1193 (by decide) (by decide) rfl dX0_near_5 ?_
  refine r_lmax B q1194 q1195 q155 q1196 (by decide) (by decide) rfl dX0_near_8 ?_
  refine r_l2i B dX0_near_11 ?_
  exact r_iret B dX0_near_12 h
set_option maxHeartbeats 4000000 in
theorem cw_X0_near {X : CX} {fr lo : Nat} (h1 : Nat.ble (1 + 1) fr = true) (h2 : Nat.ble (23 + 60) lo = true) : CW X fr lo yX0_near cX0_near 4 (some .int) 1 60 3 := ⟨q1190, q126, ⟨by decide +kernel, by decide +kernel, by decide +kernel⟩, Nat.le_of_ble_eq_true h1, Nat.le_of_ble_eq_true h2⟩

set_option maxHeartbeats 4000000 in
noncomputable def F_X0_grip (s : St) (p0 : Int32) (p1 : Int32) : Option (Int32 × St) := if (si s 2 10) = (-1 : Int32) then (gd (inb p0 6) <| some ((si s 6 p0.toNatClampNeg), s)) else (gd (inb p0 6) <| gd (inb p0 6) <| bnd (F_X0_looksAt s p0 (si s 5 p0.toNatClampNeg) (si s 6 p0.toNatClampNeg)) fun _ s5 => gd (inb (9 : Int32) 15) <| nam (setL s5 22 (9 : Int32).toNatClampNeg ((p1).toInt64)) fun s8 => bnd (F_X0_says s8 (1 : Int32)) fun r10 s11 => if r10 = (-4000000000 : Int64) then (gd (inb p0 6) <| some ((si s11 6 p0.toNatClampNeg), s11)) else (bnd (F_X0_near s11 r10 (0 : Int32) (99 : Int32)) fun r14 s15 => some (r14, s15)))
set_option maxHeartbeats 4000000 in
theorem c_X0_grip {l : Launch} {E : EV} (hE : GE E) (hS : ∀ σ, eSk E σ ↔ SkC σ) {s s' : St} {r : Int32} {p0 : Int32} {p1 : Int32} (h : F_X0_grip  s p0 p1 = some (r, s')) : CT l E yX0_grip cX0_grip 5 (some .int) 243 13670 [vr (some 0), vi p0, vi p1] s (some (vi r)) s' := by
  refine CT.start hE (by decide) rfl [(0, vr (some 0)), (1, vi p0), (2, vi p1)] rfl (fun X hX B => ?_)
  skip
  have B : FX X E cX0_grip 5 (some .int) "RoseThrow" "grip" (sn s) (ss s) 243 13670 := B
  unfold F_X0_grip at h
  refine r_aload_n (j := 0) B dX0_grip_0 rfl rfl ?_
  refine g0 (k := 2) B (vr (some 2)) rfl (fun z => by rw [((hS _).1 z).1 0 (by decide)]; rfl) rfl q358 rfl (fun z => by rw [((hS _).1 z).2 _ (List.mem_of_getElem? (i := 1) rfl)]; rfl) dX0_grip_1 ?_
  refine g1N (k := 10) B (vi (si s 2 10)) rfl (fun z => by rw [((hS _).1 z).1 2 (by decide)]; rfl) rfl (lw_n q226 rfl) rfl (fun _ => rfl) dX0_grip_4 ?_
  refine r_iconst (v := -1) B dX0_grip_7 (by decide) ?_
  refine r_ic_ne (tgt := 21) B dX0_grip_8 (by decide) (fun cn1 => ?_) (fun cn1 => ?_)
  · have h := of cn1 h
    refine r_aload_n (j := 0) B dX0_grip_21 rfl rfl ?_
    refine r_iload_n (j := 1) B dX0_grip_22 rfl rfl ?_
    refine r_aload_n (j := 0) B dX0_grip_23 rfl rfl ?_
    refine g0 (k := 2) B (vr (some 2)) rfl (fun z => by rw [((hS _).1 z).1 0 (by decide)]; rfl) rfl q358 rfl (fun z => by rw [((hS _).1 z).2 _ (List.mem_of_getElem? (i := 1) rfl)]; rfl) dX0_grip_24 ?_
    refine g1N (k := 2) B (vr (some 5)) rfl (fun z => by rw [((hS _).1 z).1 2 (by decide)]; rfl) rfl (lw_n q210 rfl) rfl (fun z => by rw [((hS _).1 z).2 _ (List.mem_of_getElem? (i := 19) rfl)]; rfl) dX0_grip_27 ?_
    refine r_iload_n (j := 1) B dX0_grip_30 rfl rfl ?_
    obtain ⟨hg2, h⟩ := gd_e h
    refine r_iald B rfl (fun z => ((hS _).1 z).1 5 (by decide)) hg2 dX0_grip_31 ?_
    refine r_aload_n (j := 0) B dX0_grip_32 rfl rfl ?_
    refine g0 (k := 2) B (vr (some 2)) rfl (fun z => by rw [((hS _).1 z).1 0 (by decide)]; rfl) rfl q358 rfl (fun z => by rw [((hS _).1 z).2 _ (List.mem_of_getElem? (i := 1) rfl)]; rfl) dX0_grip_33 ?_
    refine g1N (k := 3) B (vr (some 6)) rfl (fun z => by rw [((hS _).1 z).1 2 (by decide)]; rfl) rfl (lw_n q212 rfl) rfl (fun z => by rw [((hS _).1 z).2 _ (List.mem_of_getElem? (i := 20) rfl)]; rfl) dX0_grip_36 ?_
    refine r_iload_n (j := 1) B dX0_grip_39 rfl rfl ?_
    obtain ⟨hg3, h⟩ := gd_e h
    refine r_iald B rfl (fun z => ((hS _).1 z).1 6 (by decide)) hg3 dX0_grip_40 ?_
    obtain ⟨r4, s5, hc6, h⟩ := bnd_e h
    refine r_callV0 (As := [vi p0, vi (si s 5 p0.toNatClampNeg), vi (si s 6 p0.toNatClampNeg)]) (rest := []) B rfl rfl EX.same (c_X0_looksAt B.ge hS hc6) (cw_X0_looksAt rfl rfl) (fun z => RV.of 0 (by rw [((hS _).1 z).1 0 (by decide)]; rfl) rfl rfl qs8) q567 q569 rfl dX0_grip_41 ?_
    refine r_aload_n (j := 0) B dX0_grip_44 rfl rfl ?_
    refine g0 (k := 16) B (vr (some 20)) rfl (fun z => by rw [((hS _).1 z).1 0 (by decide)]; rfl) rfl q372 rfl (fun z => by rw [((hS _).1 z).2 _ (List.mem_of_getElem? (i := 10) rfl)]; rfl) dX0_grip_45 ?_
    refine g2N (k := 1) B (vr (some 22)) rfl (fun z => by rw [((hS _).1 z).1 20 (by decide)]; rfl) rfl (lw_n q322 rfl) rfl (fun z => by rw [((hS _).1 z).2 _ (List.mem_of_getElem? (i := 26) rfl)]; rfl) dX0_grip_48 ?_
    refine r_bipush (v := 9) B dX0_grip_51 (by decide) ?_
    refine r_iload_n (j := 2) B dX0_grip_53 rfl rfl ?_
    refine r_i2l B dX0_grip_54 ?_
    obtain ⟨hg7, h⟩ := gd_e h
    obtain ⟨s8, e9, h⟩ := nam_e h
    refine r_last B e9 rfl (fun z => ((hS _).1 z).1 22 (by decide)) hg7 dX0_grip_55 ?_
    refine r_aload_n (j := 0) B dX0_grip_56 rfl rfl ?_
    refine r_iconst (v := 1) B dX0_grip_57 (by decide) ?_
    obtain ⟨r10, s11, hc12, h⟩ := bnd_e h
    refine r_callVv (As := [vi (1 : Int32)]) (rest := []) B rfl rfl EX.same (c_X0_says B.ge hS hc12) (cw_X0_says rfl rfl) (fun z => RV.of 0 (by rw [((hS _).1 z).1 0 (by decide)]; rfl) rfl rfl qs11) q580 q582 rfl dX0_grip_58 ?_
    refine r_lstore_n (L' := [(0, vr (some 0)), (1, vi p0), (2, vi p1), (3, vl r10)]) B dX0_grip_61 rfl (by decide) rfl rfl rfl ?_
    refine r_lload_n (j := 3) B dX0_grip_62 rfl rfl ?_
    refine r_ldc2 B dX0_grip_63 q649 ?_
    refine r_lcmp B dX0_grip_66 ?_
    refine r_if_ne (tgt := 82) B dX0_grip_67 (by decide) (fun cn13 => ?_) (fun cn13 => ?_)
    · have h := of (fun z => cn13 (lc_eq.mpr z)) h
      refine r_lload_n (j := 3) B dX0_grip_82 rfl rfl ?_
      refine r_iconst (v := 0) B dX0_grip_83 (by decide) ?_
      refine r_bipush (v := 99) B dX0_grip_84 (by decide) ?_
      obtain ⟨r14, s15, hc16, h⟩ := bnd_e h
      refine r_callSv (As := [vl r10, vi (0 : Int32), vi (99 : Int32)]) (rest := []) B rfl EX.same (c_X0_near B.ge hS hc16) (cw_X0_near rfl rfl) q1188 q1189 rfl dX0_grip_86 ?_
      exact r_iret B dX0_grip_89 h
    · have h := ot (lc_eq.mp cn13) h
      refine r_aload_n (j := 0) B dX0_grip_70 rfl rfl ?_
      refine g0 (k := 2) B (vr (some 2)) rfl (fun z => by rw [((hS _).1 z).1 0 (by decide)]; rfl) rfl q358 rfl (fun z => by rw [((hS _).1 z).2 _ (List.mem_of_getElem? (i := 1) rfl)]; rfl) dX0_grip_71 ?_
      refine g1N (k := 3) B (vr (some 6)) rfl (fun z => by rw [((hS _).1 z).1 2 (by decide)]; rfl) rfl (lw_n q212 rfl) rfl (fun z => by rw [((hS _).1 z).2 _ (List.mem_of_getElem? (i := 20) rfl)]; rfl) dX0_grip_74 ?_
      refine r_iload_n (j := 1) B dX0_grip_77 rfl rfl ?_
      obtain ⟨hg17, h⟩ := gd_e h
      refine r_iald B rfl (fun z => ((hS _).1 z).1 6 (by decide)) hg17 dX0_grip_78 ?_
      refine r_goto (tgt := 89) B dX0_grip_79 (by decide) ?_
      exact r_iret B dX0_grip_89 h
  · have h := ot cn1 h
    refine r_aload_n (j := 0) B dX0_grip_11 rfl rfl ?_
    refine g0 (k := 2) B (vr (some 2)) rfl (fun z => by rw [((hS _).1 z).1 0 (by decide)]; rfl) rfl q358 rfl (fun z => by rw [((hS _).1 z).2 _ (List.mem_of_getElem? (i := 1) rfl)]; rfl) dX0_grip_12 ?_
    refine g1N (k := 3) B (vr (some 6)) rfl (fun z => by rw [((hS _).1 z).1 2 (by decide)]; rfl) rfl (lw_n q212 rfl) rfl (fun z => by rw [((hS _).1 z).2 _ (List.mem_of_getElem? (i := 20) rfl)]; rfl) dX0_grip_15 ?_
    refine r_iload_n (j := 1) B dX0_grip_18 rfl rfl ?_
    obtain ⟨hg18, h⟩ := gd_e h
    refine r_iald B rfl (fun z => ((hS _).1 z).1 6 (by decide)) hg18 dX0_grip_19 ?_
    exact r_iret B dX0_grip_20 h
set_option maxHeartbeats 4000000 in
theorem cw_X0_grip {X : CX} {fr lo : Nat} (h1 : Nat.ble (243 + 1) fr = true) (h2 : Nat.ble (24 + 13670) lo = true) : CW X fr lo yX0_grip cX0_grip 5 (some .int) 243 13670 2 := ⟨q1187, q126, ⟨by decide +kernel, by decide +kernel, by decide +kernel⟩, Nat.le_of_ble_eq_true h1, Nat.le_of_ble_eq_true h2⟩

set_option maxHeartbeats 4000000 in
noncomputable def F_X0_wed (s : St) (p0 : Int32) (p1 : Int32) : Option (Int32 × St) := if (si s 2 10) = (-1 : Int32) then (some ((25 : Int32), s)) else (gd (inb p0 6) <| gd (inb p0 6) <| bnd (F_X0_looksAt s p0 (si s 5 p0.toNatClampNeg) (si s 6 p0.toNatClampNeg)) fun _ s5 => gd (inb (10 : Int32) 15) <| nam (setL s5 22 (10 : Int32).toNatClampNeg ((p1).toInt64)) fun s8 => bnd (F_X0_says s8 (2 : Int32)) fun r10 s11 => if r10 = (-4000000000 : Int64) then (some ((25 : Int32), s11)) else (bnd (F_X0_near s11 r10 (0 : Int32) (100 : Int32)) fun r14 s15 => some (r14, s15)))
set_option maxHeartbeats 4000000 in
theorem c_X0_wed {l : Launch} {E : EV} (hE : GE E) (hS : ∀ σ, eSk E σ ↔ SkC σ) {s s' : St} {r : Int32} {p0 : Int32} {p1 : Int32} (h : F_X0_wed  s p0 p1 = some (r, s')) : CT l E yX0_wed cX0_wed 5 (some .int) 243 13670 [vr (some 0), vi p0, vi p1] s (some (vi r)) s' := by
  refine CT.start hE (by decide) rfl [(0, vr (some 0)), (1, vi p0), (2, vi p1)] rfl (fun X hX B => ?_)
  skip
  have B : FX X E cX0_wed 5 (some .int) "RoseThrow" "wed" (sn s) (ss s) 243 13670 := B
  unfold F_X0_wed at h
  refine r_aload_n (j := 0) B dX0_wed_0 rfl rfl ?_
  refine g0 (k := 2) B (vr (some 2)) rfl (fun z => by rw [((hS _).1 z).1 0 (by decide)]; rfl) rfl q358 rfl (fun z => by rw [((hS _).1 z).2 _ (List.mem_of_getElem? (i := 1) rfl)]; rfl) dX0_wed_1 ?_
  refine g1N (k := 10) B (vi (si s 2 10)) rfl (fun z => by rw [((hS _).1 z).1 2 (by decide)]; rfl) rfl (lw_n q226 rfl) rfl (fun _ => rfl) dX0_wed_4 ?_
  refine r_iconst (v := -1) B dX0_wed_7 (by decide) ?_
  refine r_ic_ne (tgt := 14) B dX0_wed_8 (by decide) (fun cn1 => ?_) (fun cn1 => ?_)
  · have h := of cn1 h
    refine r_aload_n (j := 0) B dX0_wed_14 rfl rfl ?_
    refine r_iload_n (j := 1) B dX0_wed_15 rfl rfl ?_
    refine r_aload_n (j := 0) B dX0_wed_16 rfl rfl ?_
    refine g0 (k := 2) B (vr (some 2)) rfl (fun z => by rw [((hS _).1 z).1 0 (by decide)]; rfl) rfl q358 rfl (fun z => by rw [((hS _).1 z).2 _ (List.mem_of_getElem? (i := 1) rfl)]; rfl) dX0_wed_17 ?_
    refine g1N (k := 2) B (vr (some 5)) rfl (fun z => by rw [((hS _).1 z).1 2 (by decide)]; rfl) rfl (lw_n q210 rfl) rfl (fun z => by rw [((hS _).1 z).2 _ (List.mem_of_getElem? (i := 19) rfl)]; rfl) dX0_wed_20 ?_
    refine r_iload_n (j := 1) B dX0_wed_23 rfl rfl ?_
    obtain ⟨hg2, h⟩ := gd_e h
    refine r_iald B rfl (fun z => ((hS _).1 z).1 5 (by decide)) hg2 dX0_wed_24 ?_
    refine r_aload_n (j := 0) B dX0_wed_25 rfl rfl ?_
    refine g0 (k := 2) B (vr (some 2)) rfl (fun z => by rw [((hS _).1 z).1 0 (by decide)]; rfl) rfl q358 rfl (fun z => by rw [((hS _).1 z).2 _ (List.mem_of_getElem? (i := 1) rfl)]; rfl) dX0_wed_26 ?_
    refine g1N (k := 3) B (vr (some 6)) rfl (fun z => by rw [((hS _).1 z).1 2 (by decide)]; rfl) rfl (lw_n q212 rfl) rfl (fun z => by rw [((hS _).1 z).2 _ (List.mem_of_getElem? (i := 20) rfl)]; rfl) dX0_wed_29 ?_
    refine r_iload_n (j := 1) B dX0_wed_32 rfl rfl ?_
    obtain ⟨hg3, h⟩ := gd_e h
    refine r_iald B rfl (fun z => ((hS _).1 z).1 6 (by decide)) hg3 dX0_wed_33 ?_
    obtain ⟨r4, s5, hc6, h⟩ := bnd_e h
    refine r_callV0 (As := [vi p0, vi (si s 5 p0.toNatClampNeg), vi (si s 6 p0.toNatClampNeg)]) (rest := []) B rfl rfl EX.same (c_X0_looksAt B.ge hS hc6) (cw_X0_looksAt rfl rfl) (fun z => RV.of 0 (by rw [((hS _).1 z).1 0 (by decide)]; rfl) rfl rfl qs8) q567 q569 rfl dX0_wed_34 ?_
    refine r_aload_n (j := 0) B dX0_wed_37 rfl rfl ?_
    refine g0 (k := 16) B (vr (some 20)) rfl (fun z => by rw [((hS _).1 z).1 0 (by decide)]; rfl) rfl q372 rfl (fun z => by rw [((hS _).1 z).2 _ (List.mem_of_getElem? (i := 10) rfl)]; rfl) dX0_wed_38 ?_
    refine g2N (k := 1) B (vr (some 22)) rfl (fun z => by rw [((hS _).1 z).1 20 (by decide)]; rfl) rfl (lw_n q322 rfl) rfl (fun z => by rw [((hS _).1 z).2 _ (List.mem_of_getElem? (i := 26) rfl)]; rfl) dX0_wed_41 ?_
    refine r_bipush (v := 10) B dX0_wed_44 (by decide) ?_
    refine r_iload_n (j := 2) B dX0_wed_46 rfl rfl ?_
    refine r_i2l B dX0_wed_47 ?_
    obtain ⟨hg7, h⟩ := gd_e h
    obtain ⟨s8, e9, h⟩ := nam_e h
    refine r_last B e9 rfl (fun z => ((hS _).1 z).1 22 (by decide)) hg7 dX0_wed_48 ?_
    refine r_aload_n (j := 0) B dX0_wed_49 rfl rfl ?_
    refine r_iconst (v := 2) B dX0_wed_50 (by decide) ?_
    obtain ⟨r10, s11, hc12, h⟩ := bnd_e h
    refine r_callVv (As := [vi (2 : Int32)]) (rest := []) B rfl rfl EX.same (c_X0_says B.ge hS hc12) (cw_X0_says rfl rfl) (fun z => RV.of 0 (by rw [((hS _).1 z).1 0 (by decide)]; rfl) rfl rfl qs11) q580 q582 rfl dX0_wed_51 ?_
    refine r_lstore_n (L' := [(0, vr (some 0)), (1, vi p0), (2, vi p1), (3, vl r10)]) B dX0_wed_54 rfl (by decide) rfl rfl rfl ?_
    refine r_lload_n (j := 3) B dX0_wed_55 rfl rfl ?_
    refine r_ldc2 B dX0_wed_56 q649 ?_
    refine r_lcmp B dX0_wed_59 ?_
    refine r_if_ne (tgt := 68) B dX0_wed_60 (by decide) (fun cn13 => ?_) (fun cn13 => ?_)
    · have h := of (fun z => cn13 (lc_eq.mpr z)) h
      refine r_lload_n (j := 3) B dX0_wed_68 rfl rfl ?_
      refine r_iconst (v := 0) B dX0_wed_69 (by decide) ?_
      refine r_bipush (v := 100) B dX0_wed_70 (by decide) ?_
      obtain ⟨r14, s15, hc16, h⟩ := bnd_e h
      refine r_callSv (As := [vl r10, vi (0 : Int32), vi (100 : Int32)]) (rest := []) B rfl EX.same (c_X0_near B.ge hS hc16) (cw_X0_near rfl rfl) q1188 q1189 rfl dX0_wed_72 ?_
      exact r_iret B dX0_wed_75 h
    · have h := ot (lc_eq.mp cn13) h
      refine r_bipush (v := 25) B dX0_wed_63 (by decide) ?_
      refine r_goto (tgt := 75) B dX0_wed_65 (by decide) ?_
      exact r_iret B dX0_wed_75 h
  · have h := ot cn1 h
    refine r_bipush (v := 25) B dX0_wed_11 (by decide) ?_
    exact r_iret B dX0_wed_13 h
set_option maxHeartbeats 4000000 in
theorem cw_X0_wed {X : CX} {fr lo : Nat} (h1 : Nat.ble (243 + 1) fr = true) (h2 : Nat.ble (24 + 13670) lo = true) : CW X fr lo yX0_wed cX0_wed 5 (some .int) 243 13670 2 := ⟨q1200, q126, ⟨by decide +kernel, by decide +kernel, by decide +kernel⟩, Nat.le_of_ble_eq_true h1, Nat.le_of_ble_eq_true h2⟩

set_option maxHeartbeats 4000000 in
noncomputable def F_X0_isBarred_2 (s : St) (p0 : Int32) (p1 : Int32) : Option (Int32 × St) := gd (inb p0 6) <| gd (inb p0 6) <| bnd (F_X0_isBarred s p0 (si s 5 p0.toNatClampNeg) (si s 6 p0.toNatClampNeg) p1) fun r3 s4 => gd (fits .boolean (.int r3)) <| some (r3, s4)
set_option maxHeartbeats 4000000 in
theorem c_X0_isBarred_2 {l : Launch} {E : EV} (hE : GE E) (hS : ∀ σ, eSk E σ ↔ SkC σ) {s s' : St} {r : Int32} {p0 : Int32} {p1 : Int32} (h : F_X0_isBarred_2  s p0 p1 = some (r, s')) : CT l E yX0_isBarred_2 cX0_isBarred_2 3 (some .boolean) 244 13694 [vr (some 0), vi p0, vi p1] s (some (vi r)) s' := by
  refine CT.start hE (by decide) rfl [(0, vr (some 0)), (1, vi p0), (2, vi p1)] rfl (fun X hX B => ?_)
  skip
  have B : FX X E cX0_isBarred_2 3 (some .boolean) "RoseThrow" "isBarred" (sn s) (ss s) 244 13694 := B
  unfold F_X0_isBarred_2 at h
  refine r_aload_n (j := 0) B dX0_isBarred_2_0 rfl rfl ?_
  refine r_iload_n (j := 1) B dX0_isBarred_2_1 rfl rfl ?_
  refine r_aload_n (j := 0) B dX0_isBarred_2_2 rfl rfl ?_
  refine g0 (k := 2) B (vr (some 2)) rfl (fun z => by rw [((hS _).1 z).1 0 (by decide)]; rfl) rfl q358 rfl (fun z => by rw [((hS _).1 z).2 _ (List.mem_of_getElem? (i := 1) rfl)]; rfl) dX0_isBarred_2_3 ?_
  refine g1N (k := 2) B (vr (some 5)) rfl (fun z => by rw [((hS _).1 z).1 2 (by decide)]; rfl) rfl (lw_n q210 rfl) rfl (fun z => by rw [((hS _).1 z).2 _ (List.mem_of_getElem? (i := 19) rfl)]; rfl) dX0_isBarred_2_6 ?_
  refine r_iload_n (j := 1) B dX0_isBarred_2_9 rfl rfl ?_
  obtain ⟨hg1, h⟩ := gd_e h
  refine r_iald B rfl (fun z => ((hS _).1 z).1 5 (by decide)) hg1 dX0_isBarred_2_10 ?_
  refine r_aload_n (j := 0) B dX0_isBarred_2_11 rfl rfl ?_
  refine g0 (k := 2) B (vr (some 2)) rfl (fun z => by rw [((hS _).1 z).1 0 (by decide)]; rfl) rfl q358 rfl (fun z => by rw [((hS _).1 z).2 _ (List.mem_of_getElem? (i := 1) rfl)]; rfl) dX0_isBarred_2_12 ?_
  refine g1N (k := 3) B (vr (some 6)) rfl (fun z => by rw [((hS _).1 z).1 2 (by decide)]; rfl) rfl (lw_n q212 rfl) rfl (fun z => by rw [((hS _).1 z).2 _ (List.mem_of_getElem? (i := 20) rfl)]; rfl) dX0_isBarred_2_15 ?_
  refine r_iload_n (j := 1) B dX0_isBarred_2_18 rfl rfl ?_
  obtain ⟨hg2, h⟩ := gd_e h
  refine r_iald B rfl (fun z => ((hS _).1 z).1 6 (by decide)) hg2 dX0_isBarred_2_19 ?_
  refine r_iload_n (j := 2) B dX0_isBarred_2_20 rfl rfl ?_
  obtain ⟨r3, s4, hc5, h⟩ := bnd_e h
  refine r_callVv (As := [vi p0, vi (si s 5 p0.toNatClampNeg), vi (si s 6 p0.toNatClampNeg), vi p1]) (rest := []) B rfl rfl EX.same (c_X0_isBarred B.ge hS hc5) (cw_X0_isBarred rfl rfl) (fun z => RV.of 0 (by rw [((hS _).1 z).1 0 (by decide)]; rfl) rfl rfl qs7) q563 q565 rfl dX0_isBarred_2_21 ?_
  obtain ⟨hg6, h⟩ := gd_e h
  exact r_zret B dX0_isBarred_2_24 hg6 h
set_option maxHeartbeats 4000000 in
theorem cw_X0_isBarred_2 {X : CX} {fr lo : Nat} (h1 : Nat.ble (244 + 1) fr = true) (h2 : Nat.ble (22 + 13694) lo = true) : CW X fr lo yX0_isBarred_2 cX0_isBarred_2 3 (some .boolean) 244 13694 2 := ⟨q1204, q126, ⟨by decide +kernel, by decide +kernel, by decide +kernel⟩, Nat.le_of_ble_eq_true h1, Nat.le_of_ble_eq_true h2⟩

set_option maxHeartbeats 4000000 in
noncomputable def F_X0_asks (s : St) (p0 : Int32) (p1 : Int32) (p2 : Int32) : Option (Int32 × St) := bnd (F_X0_isCatcher s p0) fun r1 s2 => if r1 = 0 then (some ((-1 : Int32), s2)) else ((if p1 = (0 : Int32) then (bnd (F_X0_in s2 p2 (0 : Int32) (10 : Int32)) fun r5 s6 => if r5 = 0 then (some ((-1 : Int32), s6)) else (bnd (F_X0_grip s6 p0 p2) fun r9 s10 => some (r9, s10))) else (if p1 = (1 : Int32) then (bnd (F_X0_in s2 p2 (0 : Int32) (1 : Int32)) fun r12 s13 => if r12 = 0 then (some ((-1 : Int32), s13)) else (bnd (F_X0_wed s13 p0 p2) fun r16 s17 => some (r16, s17))) else (if p1 = (2 : Int32) then (bnd (F_X0_isCell s2 p2) fun r19 s20 => if r19 = 0 then (some ((-1 : Int32), s20)) else (bnd (F_X0_isBarred_2 s20 p0 p2) fun r23 s24 => if r23 = 0 then (some ((0 : Int32), s24)) else (some ((1 : Int32), s24)))) else (some ((-1 : Int32), s2))))))
set_option maxHeartbeats 4000000 in
theorem c_X0_asks {l : Launch} {E : EV} (hE : GE E) (hS : ∀ σ, eSk E σ ↔ SkC σ) {s s' : St} {r : Int32} {p0 : Int32} {p1 : Int32} {p2 : Int32} (h : F_X0_asks  s p0 p1 p2 = some (r, s')) : CT l E yX0_asks cX0_asks 4 (some .int) 245 13716 [vr (some 0), vi p0, vi p1, vi p2] s (some (vi r)) s' := by
  refine CT.start hE (by decide) rfl [(0, vr (some 0)), (1, vi p0), (2, vi p1), (3, vi p2)] rfl (fun X hX B => ?_)
  skip
  have B : FX X E cX0_asks 4 (some .int) "RoseThrow" "asks" (sn s) (ss s) 245 13716 := B
  unfold F_X0_asks at h
  refine r_aload_n (j := 0) B dX0_asks_0 rfl rfl ?_
  refine r_iload_n (j := 1) B dX0_asks_1 rfl rfl ?_
  obtain ⟨r1, s2, hc3, h⟩ := bnd_e h
  refine r_callVv (As := [vi p0]) (rest := []) B rfl rfl EX.same (c_X0_isCatcher B.ge hS hc3) (cw_X0_isCatcher rfl rfl) (fun z => RV.of 0 (by rw [((hS _).1 z).1 0 (by decide)]; rfl) rfl rfl qs12) q654 q656 rfl dX0_asks_2 ?_
  refine r_if_ne (tgt := 10) B dX0_asks_5 (by decide) (fun cn4 => ?_) (fun cn4 => ?_)
  · have h := of cn4 h
    refine r_iload_n (j := 2) B dX0_asks_10 rfl rfl ?_
    by_cases c11_0 : p1 = (0 : Int32)
    · have h := ot c11_0 h
      refine r_tin (tgt := 36) B dX0_asks_11 c11_0 (by decide) (by decide) (off := 25) (by decide) (by decide) ?_
      refine r_iload_n (j := 3) B dX0_asks_36 rfl rfl ?_
      refine r_iconst (v := 0) B dX0_asks_37 (by decide) ?_
      refine r_bipush (v := 10) B dX0_asks_38 (by decide) ?_
      obtain ⟨r5, s6, hc7, h⟩ := bnd_e h
      refine r_callSv (As := [vi p2, vi (0 : Int32), vi (10 : Int32)]) (rest := []) B rfl EX.same (c_X0_in B.ge hS hc7) (cw_X0_in rfl rfl) q445 q446 rfl dX0_asks_40 ?_
      refine r_if_eq (tgt := 55) B dX0_asks_43 (by decide) (fun cn8 => ?_) (fun cn8 => ?_)
      · have h := ot cn8 h
        refine r_iconst (v := -1) B dX0_asks_55 (by decide) ?_
        exact r_iret B dX0_asks_56 h
      · have h := of cn8 h
        refine r_aload_n (j := 0) B dX0_asks_46 rfl rfl ?_
        refine r_iload_n (j := 1) B dX0_asks_47 rfl rfl ?_
        refine r_iload_n (j := 3) B dX0_asks_48 rfl rfl ?_
        obtain ⟨r9, s10, hc11, h⟩ := bnd_e h
        refine r_callVv (As := [vi p0, vi p2]) (rest := []) B rfl rfl EX.same (c_X0_grip B.ge hS hc11) (cw_X0_grip rfl rfl) (fun z => RV.of 0 (by rw [((hS _).1 z).1 0 (by decide)]; rfl) rfl rfl qs17) q1184 q1186 rfl dX0_asks_49 ?_
        refine r_goto (tgt := 56) B dX0_asks_52 (by decide) ?_
        exact r_iret B dX0_asks_56 h
    · have h := of c11_0 h
      by_cases c11_1 : p1 = (1 : Int32)
      · have h := ot c11_1 h
        refine r_tin (tgt := 57) B dX0_asks_11 c11_1 (by decide) (by decide) (off := 46) (by decide) (by decide) ?_
        refine r_iload_n (j := 3) B dX0_asks_57 rfl rfl ?_
        refine r_iconst (v := 0) B dX0_asks_58 (by decide) ?_
        refine r_iconst (v := 1) B dX0_asks_59 (by decide) ?_
        obtain ⟨r12, s13, hc14, h⟩ := bnd_e h
        refine r_callSv (As := [vi p2, vi (0 : Int32), vi (1 : Int32)]) (rest := []) B rfl EX.same (c_X0_in B.ge hS hc14) (cw_X0_in rfl rfl) q445 q446 rfl dX0_asks_60 ?_
        refine r_if_eq (tgt := 75) B dX0_asks_63 (by decide) (fun cn15 => ?_) (fun cn15 => ?_)
        · have h := ot cn15 h
          refine r_iconst (v := -1) B dX0_asks_75 (by decide) ?_
          exact r_iret B dX0_asks_76 h
        · have h := of cn15 h
          refine r_aload_n (j := 0) B dX0_asks_66 rfl rfl ?_
          refine r_iload_n (j := 1) B dX0_asks_67 rfl rfl ?_
          refine r_iload_n (j := 3) B dX0_asks_68 rfl rfl ?_
          obtain ⟨r16, s17, hc18, h⟩ := bnd_e h
          refine r_callVv (As := [vi p0, vi p2]) (rest := []) B rfl rfl EX.same (c_X0_wed B.ge hS hc18) (cw_X0_wed rfl rfl) (fun z => RV.of 0 (by rw [((hS _).1 z).1 0 (by decide)]; rfl) rfl rfl qs18) q1197 q1199 rfl dX0_asks_69 ?_
          refine r_goto (tgt := 76) B dX0_asks_72 (by decide) ?_
          exact r_iret B dX0_asks_76 h
      · have h := of c11_1 h
        by_cases c11_2 : p1 = (2 : Int32)
        · have h := ot c11_2 h
          refine r_tin (tgt := 77) B dX0_asks_11 c11_2 (by decide) (by decide) (off := 66) (by decide) (by decide) ?_
          refine r_iload_n (j := 3) B dX0_asks_77 rfl rfl ?_
          obtain ⟨r19, s20, hc21, h⟩ := bnd_e h
          refine r_callSv (As := [vi p2]) (rest := []) B rfl EX.same (c_X0_isCell B.ge hS hc21) (cw_X0_isCell rfl rfl) q553 q554 rfl dX0_asks_78 ?_
          refine r_if_eq (tgt := 101) B dX0_asks_81 (by decide) (fun cn22 => ?_) (fun cn22 => ?_)
          · have h := ot cn22 h
            refine r_iconst (v := -1) B dX0_asks_101 (by decide) ?_
            exact r_iret B dX0_asks_102 h
          · have h := of cn22 h
            refine r_aload_n (j := 0) B dX0_asks_84 rfl rfl ?_
            refine r_iload_n (j := 1) B dX0_asks_85 rfl rfl ?_
            refine r_iload_n (j := 3) B dX0_asks_86 rfl rfl ?_
            obtain ⟨r23, s24, hc25, h⟩ := bnd_e h
            refine r_callVv (As := [vi p0, vi p2]) (rest := []) B rfl rfl EX.same (c_X0_isBarred_2 B.ge hS hc25) (cw_X0_isBarred_2 rfl rfl) (fun z => RV.of 0 (by rw [((hS _).1 z).1 0 (by decide)]; rfl) rfl rfl qs19) q1201 q1203 rfl dX0_asks_87 ?_
            refine r_if_eq (tgt := 97) B dX0_asks_90 (by decide) (fun cn26 => ?_) (fun cn26 => ?_)
            · have h := ot cn26 h
              refine r_iconst (v := 0) B dX0_asks_97 (by decide) ?_
              refine r_goto (tgt := 102) B dX0_asks_98 (by decide) ?_
              exact r_iret B dX0_asks_102 h
            · have h := of cn26 h
              refine r_iconst (v := 1) B dX0_asks_93 (by decide) ?_
              refine r_goto (tgt := 102) B dX0_asks_94 (by decide) ?_
              exact r_iret B dX0_asks_102 h
        · have h := of c11_2 h
          refine r_tout (tgt := 103) B dX0_asks_11 (by have t0 := lv_neT (a := 0) c11_0 (by decide); have t1 := lv_neT (a := 1) c11_1 (by decide); have t2 := lv_neT (a := 2) c11_2 (by decide); omega) (by decide) ?_
          refine r_iconst (v := -1) B dX0_asks_103 (by decide) ?_
          exact r_iret B dX0_asks_104 h
  · have h := ot cn4 h
    refine r_iconst (v := -1) B dX0_asks_8 (by decide) ?_
    exact r_iret B dX0_asks_9 h
set_option maxHeartbeats 4000000 in
theorem cw_X0_asks {X : CX} {fr lo : Nat} (h1 : Nat.ble (245 + 1) fr = true) (h2 : Nat.ble (23 + 13716) lo = true) : CW X fr lo yX0_asks cX0_asks 4 (some .int) 245 13716 3 := ⟨q1183, q126, ⟨by decide +kernel, by decide +kernel, by decide +kernel⟩, Nat.le_of_ble_eq_true h1, Nat.le_of_ble_eq_true h2⟩

set_option maxHeartbeats 4000000 in
noncomputable def F_X0_canGo (s : St) (p0 : Option Nat) (p1 : Int32) (p2 : Int32) : Option (Int32 × St) := bnd (F_X0_whoIn s p0 p2) fun r1 s2 => if r1 = (-1 : Int32) then (bnd (F_X0_isBarred_2 s2 p1 p2) fun r5 s6 => if r5 = 0 then (some ((1 : Int32), s6)) else (some ((0 : Int32), s6))) else (some ((0 : Int32), s2))
set_option maxHeartbeats 4000000 in
theorem c_X0_canGo {l : Launch} {E : EV} (hE : GE E) (hS : ∀ σ, eSk E σ ↔ SkC σ) {s s' : St} {r : Int32} {p0 : Option Nat} {p1 : Int32} {p2 : Int32} (h : F_X0_canGo  s p0 p1 p2 = some (r, s')) : CT l E yX0_canGo cX0_canGo 4 (some .boolean) 245 13716 [vr (some 0), vr p0, vi p1, vi p2] s (some (vi r)) s' := by
  refine CT.start hE (by decide) rfl [(0, vr (some 0)), (1, vr p0), (2, vi p1), (3, vi p2)] rfl (fun X hX B => ?_)
  skip
  have B : FX X E cX0_canGo 4 (some .boolean) "RoseThrow" "canGo" (sn s) (ss s) 245 13716 := B
  unfold F_X0_canGo at h
  refine r_aload_n (j := 0) B dX0_canGo_0 rfl rfl ?_
  refine r_aload_n (j := 1) B dX0_canGo_1 rfl rfl ?_
  refine r_iload_n (j := 3) B dX0_canGo_2 rfl rfl ?_
  obtain ⟨r1, s2, hc3, h⟩ := bnd_e h
  refine r_callVv (As := [vr p0, vi p2]) (rest := []) B rfl rfl EX.same (c_X0_whoIn B.ge hS hc3) (cw_X0_whoIn rfl rfl) (fun z => RV.of 0 (by rw [((hS _).1 z).1 0 (by decide)]; rfl) rfl rfl qs6) q559 q561 rfl dX0_canGo_3 ?_
  refine r_iconst (v := -1) B dX0_canGo_6 (by decide) ?_
  refine r_ic_ne (tgt := 23) B dX0_canGo_7 (by decide) (fun cn4 => ?_) (fun cn4 => ?_)
  · have h := of cn4 h
    refine r_iconst (v := 0) B dX0_canGo_23 (by decide) ?_
    exact r_zret B dX0_canGo_24 (by decide) h
  · have h := ot cn4 h
    refine r_aload_n (j := 0) B dX0_canGo_10 rfl rfl ?_
    refine r_iload_n (j := 2) B dX0_canGo_11 rfl rfl ?_
    refine r_iload_n (j := 3) B dX0_canGo_12 rfl rfl ?_
    obtain ⟨r5, s6, hc7, h⟩ := bnd_e h
    refine r_callVv (As := [vi p1, vi p2]) (rest := []) B rfl rfl EX.same (c_X0_isBarred_2 B.ge hS hc7) (cw_X0_isBarred_2 rfl rfl) (fun z => RV.of 0 (by rw [((hS _).1 z).1 0 (by decide)]; rfl) rfl rfl qs19) q1201 q1203 rfl dX0_canGo_13 ?_
    refine r_if_ne (tgt := 23) B dX0_canGo_16 (by decide) (fun cn8 => ?_) (fun cn8 => ?_)
    · have h := of cn8 h
      refine r_iconst (v := 0) B dX0_canGo_23 (by decide) ?_
      exact r_zret B dX0_canGo_24 (by decide) h
    · have h := ot cn8 h
      refine r_iconst (v := 1) B dX0_canGo_19 (by decide) ?_
      refine r_goto (tgt := 24) B dX0_canGo_20 (by decide) ?_
      exact r_zret B dX0_canGo_24 (by decide) h
set_option maxHeartbeats 4000000 in
theorem cw_X0_canGo {X : CX} {fr lo : Nat} (h1 : Nat.ble (245 + 1) fr = true) (h2 : Nat.ble (23 + 13716) lo = true) : CW X fr lo yX0_canGo cX0_canGo 4 (some .boolean) 245 13716 3 := ⟨q1216, q126, ⟨by decide +kernel, by decide +kernel, by decide +kernel⟩, Nat.le_of_ble_eq_true h1, Nat.le_of_ble_eq_true h2⟩

set_option maxHeartbeats 4000000 in
noncomputable def F_X0_keeps_50 (s : St) (x1 : Int32) : Option (Unit × St) := gd (okC (0 : Int32) ((6 : Int32) * (si s 0 15)) (6 : Int32) 6 96) <| nam (cpyI s 3 (0 : Int32).toNatClampNeg 13 ((6 : Int32) * (si s 0 15)).toNatClampNeg (6 : Int32).toNatClampNeg) fun s2 => gd (inb (si s2 0 15) 16) <| nam (setI s2 14 (si s2 0 15).toNatClampNeg x1) fun s5 => nam (setI s5 0 15 ((si s5 0 15) + (1 : Int32))) fun s7 => some ((), s7)
set_option maxHeartbeats 4000000 in
theorem w_X0_keeps_50 {X : CX} {E : EV} {a0 s' : St} {r : Unit} (B : FX X E cX0_keeps 2 none "RoseThrow" "keeps" (sn a0) (ss a0) 1 60) (hS : ∀ σ, eSk E σ ↔ SkC σ) (s : St) (x1 : Int32) (h : F_X0_keeps_50   s x1 = some (r, s')) : J X E (sn a0) (ss a0) 2 (QR X E a0 none s') s 50 [(0, vr (some 0)), (1, vi x1)] [] := by
  unfold F_X0_keeps_50 at h
  refine r_aload_n (j := 0) B dX0_keeps_50 rfl rfl ?_
  refine g0 (k := 2) B (vr (some 2)) rfl (fun z => by rw [((hS _).1 z).1 0 (by decide)]; rfl) rfl q358 rfl (fun z => by rw [((hS _).1 z).2 _ (List.mem_of_getElem? (i := 1) rfl)]; rfl) dX0_keeps_51 ?_
  refine g1N (k := 0) B (vr (some 3)) rfl (fun z => by rw [((hS _).1 z).1 2 (by decide)]; rfl) rfl (lw_n q206 rfl) rfl (fun z => by rw [((hS _).1 z).2 _ (List.mem_of_getElem? (i := 17) rfl)]; rfl) dX0_keeps_54 ?_
  refine r_iconst (v := 0) B dX0_keeps_57 (by decide) ?_
  refine r_aload_n (j := 0) B dX0_keeps_58 rfl rfl ?_
  refine g0 (k := 4) B (vr (some 13)) rfl (fun z => by rw [((hS _).1 z).1 0 (by decide)]; rfl) rfl q360 rfl (fun z => by rw [((hS _).1 z).2 _ (List.mem_of_getElem? (i := 3) rfl)]; rfl) dX0_keeps_59 ?_
  refine r_bipush (v := 6) B dX0_keeps_62 (by decide) ?_
  refine r_aload_n (j := 0) B dX0_keeps_64 rfl rfl ?_
  refine g0 (k := 15) B (vi (si s 0 15)) rfl (fun z => by rw [((hS _).1 z).1 0 (by decide)]; rfl) rfl q371 rfl (fun _ => rfl) dX0_keeps_65 ?_
  refine r_imul B dX0_keeps_68 ?_
  refine r_bipush (v := 6) B dX0_keeps_69 (by decide) ?_
  obtain ⟨hg1, h⟩ := gd_e h
  obtain ⟨s2, e3, h⟩ := nam_e h
  refine r_copyI B e3 rfl rfl (fun z => ((hS _).1 z).1 3 (by decide)) (fun z => ((hS _).1 z).1 13 (by decide)) hg1 q1221 q461 q460 q157 (by decide) (by decide) rfl dX0_keeps_71 ?_
  refine r_aload_n (j := 0) B dX0_keeps_74 rfl rfl ?_
  refine g0 (k := 5) B (vr (some 14)) rfl (fun z => by rw [((hS _).1 z).1 0 (by decide)]; rfl) rfl q361 rfl (fun z => by rw [((hS _).1 z).2 _ (List.mem_of_getElem? (i := 4) rfl)]; rfl) dX0_keeps_75 ?_
  refine r_aload_n (j := 0) B dX0_keeps_78 rfl rfl ?_
  refine g0 (k := 15) B (vi (si s2 0 15)) rfl (fun z => by rw [((hS _).1 z).1 0 (by decide)]; rfl) rfl q371 rfl (fun _ => rfl) dX0_keeps_79 ?_
  refine r_iload_n (j := 1) B dX0_keeps_82 rfl rfl ?_
  obtain ⟨hg4, h⟩ := gd_e h
  obtain ⟨s5, e6, h⟩ := nam_e h
  refine r_iast B e6 rfl (fun z => ((hS _).1 z).1 14 (by decide)) hg4 dX0_keeps_83 ?_
  refine r_aload_n (j := 0) B dX0_keeps_84 rfl rfl ?_
  refine r_dup B dX0_keeps_85 rfl ?_
  refine g0 (k := 15) B (vi (si s5 0 15)) rfl (fun z => by rw [((hS _).1 z).1 0 (by decide)]; rfl) rfl q371 rfl (fun _ => rfl) dX0_keeps_86 ?_
  refine r_iconst (v := 1) B dX0_keeps_89 (by decide) ?_
  refine r_iadd B dX0_keeps_90 ?_
  obtain ⟨s7, e8, h⟩ := nam_e h
  refine pI0 (k := 15) B e8 rfl (fun z => by rw [((hS _).1 z).1 0 (by decide)]; rfl) rfl q371 rfl rfl (fun _ _ _ => rfl) rfl dX0_keeps_91 ?_
  exact r_vret B dX0_keeps_94 h
set_option maxHeartbeats 4000000 in
noncomputable def F_X0_keeps (s : St) (p0 : Int32) : Option (Unit × St) := if (si s 0 15) = (16 : Int32) then (gd (okC (6 : Int32) (0 : Int32) (90 : Int32) 96 96) <| nam (cpyI s 13 (6 : Int32).toNatClampNeg 13 (0 : Int32).toNatClampNeg (90 : Int32).toNatClampNeg) fun s3 => gd (okC (1 : Int32) (0 : Int32) (15 : Int32) 16 16) <| nam (cpyI s3 14 (1 : Int32).toNatClampNeg 14 (0 : Int32).toNatClampNeg (15 : Int32).toNatClampNeg) fun s6 => nam (setI s6 0 15 ((si s6 0 15) - (1 : Int32))) fun s8 => F_X0_keeps_50 s8 p0) else (F_X0_keeps_50 s p0)
set_option maxHeartbeats 4000000 in
theorem c_X0_keeps {l : Launch} {E : EV} (hE : GE E) (hS : ∀ σ, eSk E σ ↔ SkC σ) {s s' : St} {r : Unit} {p0 : Int32} (h : F_X0_keeps  s p0 = some (r, s')) : CT l E yX0_keeps cX0_keeps 2 none 1 60 [vr (some 0), vi p0] s none s' := by
  refine CT.start hE (by decide) rfl [(0, vr (some 0)), (1, vi p0)] rfl (fun X hX B => ?_)
  skip
  have B : FX X E cX0_keeps 2 none "RoseThrow" "keeps" (sn s) (ss s) 1 60 := B
  unfold F_X0_keeps at h
  refine r_aload_n (j := 0) B dX0_keeps_0 rfl rfl ?_
  refine g0 (k := 15) B (vi (si s 0 15)) rfl (fun z => by rw [((hS _).1 z).1 0 (by decide)]; rfl) rfl q371 rfl (fun _ => rfl) dX0_keeps_1 ?_
  refine r_bipush (v := 16) B dX0_keeps_4 (by decide) ?_
  refine r_ic_ne (tgt := 50) B dX0_keeps_6 (by decide) (fun cn1 => ?_) (fun cn1 => ?_)
  · have h := of cn1 h
    exact w_X0_keeps_50 B hS s p0 h
  · have h := ot cn1 h
    refine r_aload_n (j := 0) B dX0_keeps_9 rfl rfl ?_
    refine g0 (k := 4) B (vr (some 13)) rfl (fun z => by rw [((hS _).1 z).1 0 (by decide)]; rfl) rfl q360 rfl (fun z => by rw [((hS _).1 z).2 _ (List.mem_of_getElem? (i := 3) rfl)]; rfl) dX0_keeps_10 ?_
    refine r_bipush (v := 6) B dX0_keeps_13 (by decide) ?_
    refine r_aload_n (j := 0) B dX0_keeps_15 rfl rfl ?_
    refine g0 (k := 4) B (vr (some 13)) rfl (fun z => by rw [((hS _).1 z).1 0 (by decide)]; rfl) rfl q360 rfl (fun z => by rw [((hS _).1 z).2 _ (List.mem_of_getElem? (i := 3) rfl)]; rfl) dX0_keeps_16 ?_
    refine r_iconst (v := 0) B dX0_keeps_19 (by decide) ?_
    refine r_bipush (v := 90) B dX0_keeps_20 (by decide) ?_
    obtain ⟨hg2, h⟩ := gd_e h
    obtain ⟨s3, e4, h⟩ := nam_e h
    refine r_copyI B e4 rfl rfl (fun z => ((hS _).1 z).1 13 (by decide)) (fun z => ((hS _).1 z).1 13 (by decide)) hg2 q1221 q461 q460 q157 (by decide) (by decide) rfl dX0_keeps_22 ?_
    refine r_aload_n (j := 0) B dX0_keeps_25 rfl rfl ?_
    refine g0 (k := 5) B (vr (some 14)) rfl (fun z => by rw [((hS _).1 z).1 0 (by decide)]; rfl) rfl q361 rfl (fun z => by rw [((hS _).1 z).2 _ (List.mem_of_getElem? (i := 4) rfl)]; rfl) dX0_keeps_26 ?_
    refine r_iconst (v := 1) B dX0_keeps_29 (by decide) ?_
    refine r_aload_n (j := 0) B dX0_keeps_30 rfl rfl ?_
    refine g0 (k := 5) B (vr (some 14)) rfl (fun z => by rw [((hS _).1 z).1 0 (by decide)]; rfl) rfl q361 rfl (fun z => by rw [((hS _).1 z).2 _ (List.mem_of_getElem? (i := 4) rfl)]; rfl) dX0_keeps_31 ?_
    refine r_iconst (v := 0) B dX0_keeps_34 (by decide) ?_
    refine r_bipush (v := 15) B dX0_keeps_35 (by decide) ?_
    obtain ⟨hg5, h⟩ := gd_e h
    obtain ⟨s6, e7, h⟩ := nam_e h
    refine r_copyI B e7 rfl rfl (fun z => ((hS _).1 z).1 14 (by decide)) (fun z => ((hS _).1 z).1 14 (by decide)) hg5 q1221 q461 q460 q157 (by decide) (by decide) rfl dX0_keeps_37 ?_
    refine r_aload_n (j := 0) B dX0_keeps_40 rfl rfl ?_
    refine r_dup B dX0_keeps_41 rfl ?_
    refine g0 (k := 15) B (vi (si s6 0 15)) rfl (fun z => by rw [((hS _).1 z).1 0 (by decide)]; rfl) rfl q371 rfl (fun _ => rfl) dX0_keeps_42 ?_
    refine r_iconst (v := 1) B dX0_keeps_45 (by decide) ?_
    refine r_isub B dX0_keeps_46 ?_
    obtain ⟨s8, e9, h⟩ := nam_e h
    refine pI0 (k := 15) B e9 rfl (fun z => by rw [((hS _).1 z).1 0 (by decide)]; rfl) rfl q371 rfl rfl (fun _ _ _ => rfl) rfl dX0_keeps_47 ?_
    exact w_X0_keeps_50 B hS s8 p0 h
set_option maxHeartbeats 4000000 in
theorem cw_X0_keeps {X : CX} {fr lo : Nat} (h1 : Nat.ble (1 + 1) fr = true) (h2 : Nat.ble (21 + 60) lo = true) : CW X fr lo yX0_keeps cX0_keeps 2 none 1 60 1 := ⟨q1220, q126, ⟨by decide +kernel, by decide +kernel, by decide +kernel⟩, Nat.le_of_ble_eq_true h1, Nat.le_of_ble_eq_true h2⟩

set_option maxHeartbeats 4000000 in
noncomputable def F_X0_goesKept (s : St) (p0 : Int32) (p1 : Int32) : Option (Int32 × St) := bnd (F_X0_isCell s p1) fun r1 s2 => if r1 = 0 then (some ((-1 : Int32), s2)) else (bnd (F_X0_isCatcher s2 p0) fun r5 s6 => if r5 = 0 then (some ((-2 : Int32), s6)) else (bnd (F_X0_canGo s6 (some 3) p0 p1) fun r9 s10 => if r9 = 0 then (some ((-3 : Int32), s10)) else (bnd (F_X0_keeps s10 (0 : Int32)) fun _ s14 => gd (inb p0 6) <| gd (inb p0 6) <| nam (setI s14 3 p0.toNatClampNeg p1) fun s18 => some ((si s14 3 p0.toNatClampNeg), s18))))
set_option maxHeartbeats 4000000 in
theorem c_X0_goesKept {l : Launch} {E : EV} (hE : GE E) (hS : ∀ σ, eSk E σ ↔ SkC σ) {s s' : St} {r : Int32} {p0 : Int32} {p1 : Int32} (h : F_X0_goesKept  s p0 p1 = some (r, s')) : CT l E yX0_goesKept cX0_goesKept 4 (some .int) 246 13739 [vr (some 0), vi p0, vi p1] s (some (vi r)) s' := by
  refine CT.start hE (by decide) rfl [(0, vr (some 0)), (1, vi p0), (2, vi p1)] rfl (fun X hX B => ?_)
  skip
  have B : FX X E cX0_goesKept 4 (some .int) "RoseThrow" "goesKept" (sn s) (ss s) 246 13739 := B
  unfold F_X0_goesKept at h
  refine r_iload_n (j := 2) B dX0_goesKept_0 rfl rfl ?_
  obtain ⟨r1, s2, hc3, h⟩ := bnd_e h
  refine r_callSv (As := [vi p1]) (rest := []) B rfl EX.same (c_X0_isCell B.ge hS hc3) (cw_X0_isCell rfl rfl) q553 q554 rfl dX0_goesKept_1 ?_
  refine r_if_ne (tgt := 9) B dX0_goesKept_4 (by decide) (fun cn4 => ?_) (fun cn4 => ?_)
  · have h := of cn4 h
    refine r_aload_n (j := 0) B dX0_goesKept_9 rfl rfl ?_
    refine r_iload_n (j := 1) B dX0_goesKept_10 rfl rfl ?_
    obtain ⟨r5, s6, hc7, h⟩ := bnd_e h
    refine r_callVv (As := [vi p0]) (rest := []) B rfl rfl EX.same (c_X0_isCatcher B.ge hS hc7) (cw_X0_isCatcher rfl rfl) (fun z => RV.of 0 (by rw [((hS _).1 z).1 0 (by decide)]; rfl) rfl rfl qs12) q654 q656 rfl dX0_goesKept_11 ?_
    refine r_if_ne (tgt := 20) B dX0_goesKept_14 (by decide) (fun cn8 => ?_) (fun cn8 => ?_)
    · have h := of cn8 h
      refine r_aload_n (j := 0) B dX0_goesKept_20 rfl rfl ?_
      refine r_aload_n (j := 0) B dX0_goesKept_21 rfl rfl ?_
      refine g0 (k := 2) B (vr (some 2)) rfl (fun z => by rw [((hS _).1 z).1 0 (by decide)]; rfl) rfl q358 rfl (fun z => by rw [((hS _).1 z).2 _ (List.mem_of_getElem? (i := 1) rfl)]; rfl) dX0_goesKept_22 ?_
      refine g1N (k := 0) B (vr (some 3)) rfl (fun z => by rw [((hS _).1 z).1 2 (by decide)]; rfl) rfl (lw_n q206 rfl) rfl (fun z => by rw [((hS _).1 z).2 _ (List.mem_of_getElem? (i := 17) rfl)]; rfl) dX0_goesKept_25 ?_
      refine r_iload_n (j := 1) B dX0_goesKept_28 rfl rfl ?_
      refine r_iload_n (j := 2) B dX0_goesKept_29 rfl rfl ?_
      obtain ⟨r9, s10, hc11, h⟩ := bnd_e h
      refine r_callVv (As := [vr (some 3), vi p0, vi p1]) (rest := []) B rfl rfl EX.same (c_X0_canGo B.ge hS hc11) (cw_X0_canGo rfl rfl) (fun z => RV.of 0 (by rw [((hS _).1 z).1 0 (by decide)]; rfl) rfl rfl qs21) q1213 q1215 rfl dX0_goesKept_30 ?_
      refine r_if_ne (tgt := 39) B dX0_goesKept_33 (by decide) (fun cn12 => ?_) (fun cn12 => ?_)
      · have h := of cn12 h
        refine r_aload_n (j := 0) B dX0_goesKept_39 rfl rfl ?_
        refine r_iconst (v := 0) B dX0_goesKept_40 (by decide) ?_
        obtain ⟨r13, s14, hc15, h⟩ := bnd_e h
        refine r_callV0 (As := [vi (0 : Int32)]) (rest := []) B rfl rfl EX.same (c_X0_keeps B.ge hS hc15) (cw_X0_keeps rfl rfl) (fun z => RV.of 0 (by rw [((hS _).1 z).1 0 (by decide)]; rfl) rfl rfl qs22) q1217 q1219 rfl dX0_goesKept_41 ?_
        refine r_aload_n (j := 0) B dX0_goesKept_44 rfl rfl ?_
        refine g0 (k := 2) B (vr (some 2)) rfl (fun z => by rw [((hS _).1 z).1 0 (by decide)]; rfl) rfl q358 rfl (fun z => by rw [((hS _).1 z).2 _ (List.mem_of_getElem? (i := 1) rfl)]; rfl) dX0_goesKept_45 ?_
        refine g1N (k := 0) B (vr (some 3)) rfl (fun z => by rw [((hS _).1 z).1 2 (by decide)]; rfl) rfl (lw_n q206 rfl) rfl (fun z => by rw [((hS _).1 z).2 _ (List.mem_of_getElem? (i := 17) rfl)]; rfl) dX0_goesKept_48 ?_
        refine r_iload_n (j := 1) B dX0_goesKept_51 rfl rfl ?_
        obtain ⟨hg16, h⟩ := gd_e h
        refine r_iald B rfl (fun z => ((hS _).1 z).1 3 (by decide)) hg16 dX0_goesKept_52 ?_
        refine r_istore_n (L' := [(0, vr (some 0)), (1, vi p0), (2, vi p1), (3, vi (si s14 3 p0.toNatClampNeg))]) B dX0_goesKept_53 rfl (by decide) rfl rfl rfl ?_
        refine r_aload_n (j := 0) B dX0_goesKept_54 rfl rfl ?_
        refine g0 (k := 2) B (vr (some 2)) rfl (fun z => by rw [((hS _).1 z).1 0 (by decide)]; rfl) rfl q358 rfl (fun z => by rw [((hS _).1 z).2 _ (List.mem_of_getElem? (i := 1) rfl)]; rfl) dX0_goesKept_55 ?_
        refine g1N (k := 0) B (vr (some 3)) rfl (fun z => by rw [((hS _).1 z).1 2 (by decide)]; rfl) rfl (lw_n q206 rfl) rfl (fun z => by rw [((hS _).1 z).2 _ (List.mem_of_getElem? (i := 17) rfl)]; rfl) dX0_goesKept_58 ?_
        refine r_iload_n (j := 1) B dX0_goesKept_61 rfl rfl ?_
        refine r_iload_n (j := 2) B dX0_goesKept_62 rfl rfl ?_
        obtain ⟨hg17, h⟩ := gd_e h
        obtain ⟨s18, e19, h⟩ := nam_e h
        refine r_iast B e19 rfl (fun z => ((hS _).1 z).1 3 (by decide)) hg17 dX0_goesKept_63 ?_
        refine r_iload_n (j := 3) B dX0_goesKept_64 rfl rfl ?_
        exact r_iret B dX0_goesKept_65 h
      · have h := ot cn12 h
        refine r_bipush (v := -3) B dX0_goesKept_36 (by decide) ?_
        exact r_iret B dX0_goesKept_38 h
    · have h := ot cn8 h
      refine r_bipush (v := -2) B dX0_goesKept_17 (by decide) ?_
      exact r_iret B dX0_goesKept_19 h
  · have h := ot cn4 h
    refine r_iconst (v := -1) B dX0_goesKept_7 (by decide) ?_
    exact r_iret B dX0_goesKept_8 h
set_option maxHeartbeats 4000000 in
theorem cw_X0_goesKept {X : CX} {fr lo : Nat} (h1 : Nat.ble (246 + 1) fr = true) (h2 : Nat.ble (23 + 13739) lo = true) : CW X fr lo yX0_goesKept cX0_goesKept 4 (some .int) 246 13739 2 := ⟨q1212, q126, ⟨by decide +kernel, by decide +kernel, by decide +kernel⟩, Nat.le_of_ble_eq_true h1, Nat.le_of_ble_eq_true h2⟩

set_option maxHeartbeats 4000000 in
noncomputable def F_X0_go (s : St) (p0 : Int32) (p1 : Int32) : Option (Int32 × St) := bnd (F_X0_goesKept s p0 p1) fun r1 s2 => if 0 ≤ r1 then (bnd (F_X0_done s2 r1) fun r5 s6 => some (r5, s6)) else (bnd (F_X0_refuse s2 r1) fun r8 s9 => some (r8, s9))
set_option maxHeartbeats 4000000 in
theorem c_X0_go {l : Launch} {E : EV} (hE : GE E) (hS : ∀ σ, eSk E σ ↔ SkC σ) {s s' : St} {r : Int32} {p0 : Int32} {p1 : Int32} (h : F_X0_go  s p0 p1 = some (r, s')) : CT l E yX0_go cX0_go 4 (some .int) 247 13762 [vr (some 0), vi p0, vi p1] s (some (vi r)) s' := by
  refine CT.start hE (by decide) rfl [(0, vr (some 0)), (1, vi p0), (2, vi p1)] rfl (fun X hX B => ?_)
  skip
  have B : FX X E cX0_go 4 (some .int) "RoseThrow" "go" (sn s) (ss s) 247 13762 := B
  unfold F_X0_go at h
  refine r_aload_n (j := 0) B dX0_go_0 rfl rfl ?_
  refine r_iload_n (j := 1) B dX0_go_1 rfl rfl ?_
  refine r_iload_n (j := 2) B dX0_go_2 rfl rfl ?_
  obtain ⟨r1, s2, hc3, h⟩ := bnd_e h
  refine r_callVv (As := [vi p0, vi p1]) (rest := []) B rfl rfl EX.same (c_X0_goesKept B.ge hS hc3) (cw_X0_goesKept rfl rfl) (fun z => RV.of 0 (by rw [((hS _).1 z).1 0 (by decide)]; rfl) rfl rfl qs20) q1209 q1211 rfl dX0_go_3 ?_
  refine r_istore_n (L' := [(0, vr (some 0)), (1, vi p0), (2, vi p1), (3, vi r1)]) B dX0_go_6 rfl (by decide) rfl rfl rfl ?_
  refine r_iload_n (j := 3) B dX0_go_7 rfl rfl ?_
  refine r_if_ge (tgt := 19) B dX0_go_8 (by decide) (fun cn4 => ?_) (fun cn4 => ?_)
  · have h := ot cn4 h
    refine r_aload_n (j := 0) B dX0_go_19 rfl rfl ?_
    refine r_iload_n (j := 3) B dX0_go_20 rfl rfl ?_
    obtain ⟨r5, s6, hc7, h⟩ := bnd_e h
    refine r_callVv (As := [vi r1]) (rest := []) B rfl rfl EX.same (c_X0_done B.ge hS hc7) (cw_X0_done rfl rfl) (fun z => RV.of 0 (by rw [((hS _).1 z).1 0 (by decide)]; rfl) rfl rfl qs3) q533 q535 rfl dX0_go_21 ?_
    exact r_iret B dX0_go_24 h
  · have h := of cn4 h
    refine r_aload_n (j := 0) B dX0_go_11 rfl rfl ?_
    refine r_iload_n (j := 3) B dX0_go_12 rfl rfl ?_
    obtain ⟨r8, s9, hc10, h⟩ := bnd_e h
    refine r_callVv (As := [vi r1]) (rest := []) B rfl rfl EX.same (c_X0_refuse B.ge hS hc10) (cw_X0_refuse rfl rfl) (fun z => RV.of 0 (by rw [((hS _).1 z).1 0 (by decide)]; rfl) rfl rfl qs1) q448 q450 rfl dX0_go_13 ?_
    refine r_goto (tgt := 24) B dX0_go_16 (by decide) ?_
    exact r_iret B dX0_go_24 h
set_option maxHeartbeats 4000000 in
theorem cw_X0_go {X : CX} {fr lo : Nat} (h1 : Nat.ble (247 + 1) fr = true) (h2 : Nat.ble (23 + 13762) lo = true) : CW X fr lo yX0_go cX0_go 4 (some .int) 247 13762 2 := ⟨q1208, q126, ⟨by decide +kernel, by decide +kernel, by decide +kernel⟩, Nat.le_of_ble_eq_true h1, Nat.le_of_ble_eq_true h2⟩

set_option maxHeartbeats 4000000 in
noncomputable def F_X0_believesKept_14 (s : St) (x1 : Int32) (x2 : Int32) : Option (Int32 × St) := bnd (F_X0_isCatcher s x1) fun r1 s2 => if r1 = 0 then (some ((-2 : Int32), s2)) else (gd (inb x1 6) <| nam (setI s2 7 x1.toNatClampNeg x2) fun s6 => some ((0 : Int32), s6))
set_option maxHeartbeats 4000000 in
theorem w_X0_believesKept_14 {X : CX} {E : EV} {a0 s' : St} {r : Int32} (B : FX X E cX0_believesKept 3 (some .int) "RoseThrow" "believesKept" (sn a0) (ss a0) 2 43) (hS : ∀ σ, eSk E σ ↔ SkC σ) (s : St) (x1 : Int32) (x2 : Int32) (h : F_X0_believesKept_14   s x1 x2 = some (r, s')) : J X E (sn a0) (ss a0) 3 (QR X E a0 (some (vi r)) s') s 14 [(0, vr (some 0)), (1, vi x1), (2, vi x2)] [] := by
  unfold F_X0_believesKept_14 at h
  refine r_aload_n (j := 0) B dX0_believesKept_14 rfl rfl ?_
  refine r_iload_n (j := 1) B dX0_believesKept_15 rfl rfl ?_
  obtain ⟨r1, s2, hc3, h⟩ := bnd_e h
  refine r_callVv (As := [vi x1]) (rest := []) B rfl rfl EX.same (c_X0_isCatcher B.ge hS hc3) (cw_X0_isCatcher rfl rfl) (fun z => RV.of 0 (by rw [((hS _).1 z).1 0 (by decide)]; rfl) rfl rfl qs12) q654 q656 rfl dX0_believesKept_16 ?_
  refine r_if_ne (tgt := 25) B dX0_believesKept_19 (by decide) (fun cn4 => ?_) (fun cn4 => ?_)
  · have h := of cn4 h
    refine r_aload_n (j := 0) B dX0_believesKept_25 rfl rfl ?_
    refine g0 (k := 2) B (vr (some 2)) rfl (fun z => by rw [((hS _).1 z).1 0 (by decide)]; rfl) rfl q358 rfl (fun z => by rw [((hS _).1 z).2 _ (List.mem_of_getElem? (i := 1) rfl)]; rfl) dX0_believesKept_26 ?_
    refine g1N (k := 4) B (vr (some 7)) rfl (fun z => by rw [((hS _).1 z).1 2 (by decide)]; rfl) rfl (lw_n q214 rfl) rfl (fun z => by rw [((hS _).1 z).2 _ (List.mem_of_getElem? (i := 21) rfl)]; rfl) dX0_believesKept_29 ?_
    refine r_iload_n (j := 1) B dX0_believesKept_32 rfl rfl ?_
    refine r_iload_n (j := 2) B dX0_believesKept_33 rfl rfl ?_
    obtain ⟨hg5, h⟩ := gd_e h
    obtain ⟨s6, e7, h⟩ := nam_e h
    refine r_iast B e7 rfl (fun z => ((hS _).1 z).1 7 (by decide)) hg5 dX0_believesKept_34 ?_
    refine r_iconst (v := 0) B dX0_believesKept_35 (by decide) ?_
    exact r_iret B dX0_believesKept_36 h
  · have h := ot cn4 h
    refine r_bipush (v := -2) B dX0_believesKept_22 (by decide) ?_
    exact r_iret B dX0_believesKept_24 h
set_option maxHeartbeats 4000000 in
noncomputable def F_X0_believesKept (s : St) (p0 : Int32) (p1 : Int32) : Option (Int32 × St) := if p1 = (-1 : Int32) then (F_X0_believesKept_14 s p0 p1) else (bnd (F_X0_isCell s p1) fun r2 s3 => if r2 = 0 then (some ((-1 : Int32), s3)) else (F_X0_believesKept_14 s3 p0 p1))
set_option maxHeartbeats 4000000 in
theorem c_X0_believesKept {l : Launch} {E : EV} (hE : GE E) (hS : ∀ σ, eSk E σ ↔ SkC σ) {s s' : St} {r : Int32} {p0 : Int32} {p1 : Int32} (h : F_X0_believesKept  s p0 p1 = some (r, s')) : CT l E yX0_believesKept cX0_believesKept 3 (some .int) 2 43 [vr (some 0), vi p0, vi p1] s (some (vi r)) s' := by
  refine CT.start hE (by decide) rfl [(0, vr (some 0)), (1, vi p0), (2, vi p1)] rfl (fun X hX B => ?_)
  skip
  have B : FX X E cX0_believesKept 3 (some .int) "RoseThrow" "believesKept" (sn s) (ss s) 2 43 := B
  unfold F_X0_believesKept at h
  refine r_iload_n (j := 2) B dX0_believesKept_0 rfl rfl ?_
  refine r_iconst (v := -1) B dX0_believesKept_1 (by decide) ?_
  refine r_ic_eq (tgt := 14) B dX0_believesKept_2 (by decide) (fun cn1 => ?_) (fun cn1 => ?_)
  · have h := ot cn1 h
    exact w_X0_believesKept_14 B hS s p0 p1 h
  · have h := of cn1 h
    refine r_iload_n (j := 2) B dX0_believesKept_5 rfl rfl ?_
    obtain ⟨r2, s3, hc4, h⟩ := bnd_e h
    refine r_callSv (As := [vi p1]) (rest := []) B rfl EX.same (c_X0_isCell B.ge hS hc4) (cw_X0_isCell rfl rfl) q553 q554 rfl dX0_believesKept_6 ?_
    refine r_if_ne (tgt := 14) B dX0_believesKept_9 (by decide) (fun cn5 => ?_) (fun cn5 => ?_)
    · have h := of cn5 h
      exact w_X0_believesKept_14 B hS s3 p0 p1 h
    · have h := ot cn5 h
      refine r_iconst (v := -1) B dX0_believesKept_12 (by decide) ?_
      exact r_iret B dX0_believesKept_13 h
set_option maxHeartbeats 4000000 in
theorem cw_X0_believesKept {X : CX} {fr lo : Nat} (h1 : Nat.ble (2 + 1) fr = true) (h2 : Nat.ble (22 + 43) lo = true) : CW X fr lo yX0_believesKept cX0_believesKept 3 (some .int) 2 43 2 := ⟨q1229, q126, ⟨by decide +kernel, by decide +kernel, by decide +kernel⟩, Nat.le_of_ble_eq_true h1, Nat.le_of_ble_eq_true h2⟩

set_option maxHeartbeats 4000000 in
noncomputable def F_X0_believe_21 (s : St) (x1 : Int32) (x2 : Int32) (z0 : Int32) : Option (Int32 × St) := bnd (F_X0_believesKept s x1 x2) fun r1 s2 => if 0 ≤ r1 then (bnd (F_X0_done s2 z0) fun r5 s6 => some (r5, s6)) else (bnd (F_X0_refuse s2 r1) fun r8 s9 => some (r8, s9))
set_option maxHeartbeats 4000000 in
theorem w_X0_believe_21 {X : CX} {E : EV} {a0 s' : St} {r : Int32} (B : FX X E cX0_believe 5 (some .int) "RoseThrow" "believe" (sn a0) (ss a0) 3 65) (hS : ∀ σ, eSk E σ ↔ SkC σ) (s : St) (x1 : Int32) (x2 : Int32) (z0 : Int32) (h : F_X0_believe_21   s x1 x2 z0 = some (r, s')) : J X E (sn a0) (ss a0) 5 (QR X E a0 (some (vi r)) s') s 21 [(0, vr (some 0)), (1, vi x1), (2, vi x2)] [vi z0] := by
  unfold F_X0_believe_21 at h
  refine r_istore_n (L' := [(0, vr (some 0)), (1, vi x1), (2, vi x2), (3, vi z0)]) B dX0_believe_21 rfl (by decide) rfl rfl rfl ?_
  refine r_aload_n (j := 0) B dX0_believe_22 rfl rfl ?_
  refine r_iload_n (j := 1) B dX0_believe_23 rfl rfl ?_
  refine r_iload_n (j := 2) B dX0_believe_24 rfl rfl ?_
  obtain ⟨r1, s2, hc3, h⟩ := bnd_e h
  refine r_callVv (As := [vi x1, vi x2]) (rest := []) B rfl rfl EX.same (c_X0_believesKept B.ge hS hc3) (cw_X0_believesKept rfl rfl) (fun z => RV.of 0 (by rw [((hS _).1 z).1 0 (by decide)]; rfl) rfl rfl qs23) q1226 q1228 rfl dX0_believe_25 ?_
  refine r_istore (L' := [(0, vr (some 0)), (1, vi x1), (2, vi x2), (3, vi z0), (4, vi r1)]) B dX0_believe_28 (by decide) rfl rfl rfl ?_
  refine r_iload (j := 4) B dX0_believe_30 rfl ?_
  refine r_if_ge (tgt := 44) B dX0_believe_32 (by decide) (fun cn4 => ?_) (fun cn4 => ?_)
  · have h := ot cn4 h
    refine r_aload_n (j := 0) B dX0_believe_44 rfl rfl ?_
    refine r_iload_n (j := 3) B dX0_believe_45 rfl rfl ?_
    obtain ⟨r5, s6, hc7, h⟩ := bnd_e h
    refine r_callVv (As := [vi z0]) (rest := []) B rfl rfl EX.same (c_X0_done B.ge hS hc7) (cw_X0_done rfl rfl) (fun z => RV.of 0 (by rw [((hS _).1 z).1 0 (by decide)]; rfl) rfl rfl qs3) q533 q535 rfl dX0_believe_46 ?_
    exact r_iret B dX0_believe_49 h
  · have h := of cn4 h
    refine r_aload_n (j := 0) B dX0_believe_35 rfl rfl ?_
    refine r_iload (j := 4) B dX0_believe_36 rfl ?_
    obtain ⟨r8, s9, hc10, h⟩ := bnd_e h
    refine r_callVv (As := [vi r1]) (rest := []) B rfl rfl EX.same (c_X0_refuse B.ge hS hc10) (cw_X0_refuse rfl rfl) (fun z => RV.of 0 (by rw [((hS _).1 z).1 0 (by decide)]; rfl) rfl rfl qs1) q448 q450 rfl dX0_believe_38 ?_
    refine r_goto (tgt := 49) B dX0_believe_41 (by decide) ?_
    exact r_iret B dX0_believe_49 h
set_option maxHeartbeats 4000000 in
noncomputable def F_X0_believe (s : St) (p0 : Int32) (p1 : Int32) : Option (Int32 × St) := bnd (F_X0_isCatcher s p0) fun r1 s2 => if r1 = 0 then (F_X0_believe_21 s2 p0 p1 (-1 : Int32)) else (gd (inb p0 6) <| F_X0_believe_21 s2 p0 p1 (si s2 7 p0.toNatClampNeg))
set_option maxHeartbeats 4000000 in
theorem c_X0_believe {l : Launch} {E : EV} (hE : GE E) (hS : ∀ σ, eSk E σ ↔ SkC σ) {s s' : St} {r : Int32} {p0 : Int32} {p1 : Int32} (h : F_X0_believe  s p0 p1 = some (r, s')) : CT l E yX0_believe cX0_believe 5 (some .int) 3 65 [vr (some 0), vi p0, vi p1] s (some (vi r)) s' := by
  refine CT.start hE (by decide) rfl [(0, vr (some 0)), (1, vi p0), (2, vi p1)] rfl (fun X hX B => ?_)
  skip
  have B : FX X E cX0_believe 5 (some .int) "RoseThrow" "believe" (sn s) (ss s) 3 65 := B
  unfold F_X0_believe at h
  refine r_aload_n (j := 0) B dX0_believe_0 rfl rfl ?_
  refine r_iload_n (j := 1) B dX0_believe_1 rfl rfl ?_
  obtain ⟨r1, s2, hc3, h⟩ := bnd_e h
  refine r_callVv (As := [vi p0]) (rest := []) B rfl rfl EX.same (c_X0_isCatcher B.ge hS hc3) (cw_X0_isCatcher rfl rfl) (fun z => RV.of 0 (by rw [((hS _).1 z).1 0 (by decide)]; rfl) rfl rfl qs12) q654 q656 rfl dX0_believe_2 ?_
  refine r_if_eq (tgt := 20) B dX0_believe_5 (by decide) (fun cn4 => ?_) (fun cn4 => ?_)
  · have h := ot cn4 h
    refine r_iconst (v := -1) B dX0_believe_20 (by decide) ?_
    exact w_X0_believe_21 B hS s2 p0 p1 (-1 : Int32) h
  · have h := of cn4 h
    refine r_aload_n (j := 0) B dX0_believe_8 rfl rfl ?_
    refine g0 (k := 2) B (vr (some 2)) rfl (fun z => by rw [((hS _).1 z).1 0 (by decide)]; rfl) rfl q358 rfl (fun z => by rw [((hS _).1 z).2 _ (List.mem_of_getElem? (i := 1) rfl)]; rfl) dX0_believe_9 ?_
    refine g1N (k := 4) B (vr (some 7)) rfl (fun z => by rw [((hS _).1 z).1 2 (by decide)]; rfl) rfl (lw_n q214 rfl) rfl (fun z => by rw [((hS _).1 z).2 _ (List.mem_of_getElem? (i := 21) rfl)]; rfl) dX0_believe_12 ?_
    refine r_iload_n (j := 1) B dX0_believe_15 rfl rfl ?_
    obtain ⟨hg5, h⟩ := gd_e h
    refine r_iald B rfl (fun z => ((hS _).1 z).1 7 (by decide)) hg5 dX0_believe_16 ?_
    refine r_goto (tgt := 21) B dX0_believe_17 (by decide) ?_
    exact w_X0_believe_21 B hS s2 p0 p1 (si s2 7 p0.toNatClampNeg) h
set_option maxHeartbeats 4000000 in
theorem cw_X0_believe {X : CX} {fr lo : Nat} (h1 : Nat.ble (3 + 1) fr = true) (h2 : Nat.ble (24 + 65) lo = true) : CW X fr lo yX0_believe cX0_believe 5 (some .int) 3 65 2 := ⟨q1225, q126, ⟨by decide +kernel, by decide +kernel, by decide +kernel⟩, Nat.le_of_ble_eq_true h1, Nat.le_of_ble_eq_true h2⟩

set_option maxHeartbeats 4000000 in
noncomputable def F_X0_steps_131 (s : St) (x1 : Int32) (x2 : Int32) : Option (Int32 × St) := gd (inb x1 6) <| if (si s 3 x1.toNatClampNeg) = x2 then (some ((0 : Int32), s)) else (some ((1 : Int32), s))
set_option maxHeartbeats 4000000 in
theorem w_X0_steps_131 {X : CX} {E : EV} {a0 s' : St} {r : Int32} (B : FX X E cX0_steps 6 (some .boolean) "RoseThrow" "steps" (sn a0) (ss a0) 246 13739) (hS : ∀ σ, eSk E σ ↔ SkC σ) (s : St) (x1 : Int32) (x2 : Int32) (h : F_X0_steps_131   s x1 x2 = some (r, s')) : J X E (sn a0) (ss a0) 6 (QR X E a0 (some (vi r)) s') s 131 [(0, vr (some 0)), (1, vi x1), (2, vi x2)] [] := by
  unfold F_X0_steps_131 at h
  refine r_aload_n (j := 0) B dX0_steps_131 rfl rfl ?_
  refine g0 (k := 2) B (vr (some 2)) rfl (fun z => by rw [((hS _).1 z).1 0 (by decide)]; rfl) rfl q358 rfl (fun z => by rw [((hS _).1 z).2 _ (List.mem_of_getElem? (i := 1) rfl)]; rfl) dX0_steps_132 ?_
  refine g1N (k := 0) B (vr (some 3)) rfl (fun z => by rw [((hS _).1 z).1 2 (by decide)]; rfl) rfl (lw_n q206 rfl) rfl (fun z => by rw [((hS _).1 z).2 _ (List.mem_of_getElem? (i := 17) rfl)]; rfl) dX0_steps_135 ?_
  refine r_iload_n (j := 1) B dX0_steps_138 rfl rfl ?_
  obtain ⟨hg1, h⟩ := gd_e h
  refine r_iald B rfl (fun z => ((hS _).1 z).1 3 (by decide)) hg1 dX0_steps_139 ?_
  refine r_iload_n (j := 2) B dX0_steps_140 rfl rfl ?_
  refine r_ic_eq (tgt := 148) B dX0_steps_141 (by decide) (fun cn2 => ?_) (fun cn2 => ?_)
  · have h := ot cn2 h
    refine r_iconst (v := 0) B dX0_steps_148 (by decide) ?_
    exact r_zret B dX0_steps_149 (by decide) h
  · have h := of cn2 h
    refine r_iconst (v := 1) B dX0_steps_144 (by decide) ?_
    refine r_goto (tgt := 149) B dX0_steps_145 (by decide) ?_
    exact r_zret B dX0_steps_149 (by decide) h
set_option maxHeartbeats 4000000 in
noncomputable def F_X0_steps_88 (s : St) (x1 : Int32) (x2 : Int32) (x5 : Int32) : Option (Int32 × St) := if x5 = 0 then (F_X0_steps_131 s x1 x2) else (bnd (F_X0_canGo s (some 3) x1 (x2 + ((6 : Int32) * x5))) fun r2 s3 => if r2 = 0 then (F_X0_steps_131 s3 x1 x2) else (gd (inb x1 6) <| nam (setI s3 3 x1.toNatClampNeg (x2 + ((6 : Int32) * x5))) fun s7 => F_X0_steps_131 s7 x1 x2))
set_option maxHeartbeats 4000000 in
theorem w_X0_steps_88 {X : CX} {E : EV} {a0 s' : St} {r : Int32} (B : FX X E cX0_steps 6 (some .boolean) "RoseThrow" "steps" (sn a0) (ss a0) 246 13739) (hS : ∀ σ, eSk E σ ↔ SkC σ) (s : St) (x1 : Int32) (x2 : Int32) (x5 : Int32) (h : F_X0_steps_88   s x1 x2 x5 = some (r, s')) : J X E (sn a0) (ss a0) 6 (QR X E a0 (some (vi r)) s') s 88 [(0, vr (some 0)), (1, vi x1), (2, vi x2), (5, vi x5)] [] := by
  unfold F_X0_steps_88 at h
  refine r_iload (j := 3) B dX0_steps_88 rfl ?_
  refine r_if_eq (tgt := 131) B dX0_steps_90 (by decide) (fun cn1 => ?_) (fun cn1 => ?_)
  · have h := ot cn1 h
    refine r_pick [0, 1, 2] (L' := [(0, vr (some 0)), (1, vi x1), (2, vi x2)]) rfl ?_
    exact w_X0_steps_131 B hS s x1 x2 h
  · have h := of cn1 h
    refine r_aload_n (j := 0) B dX0_steps_93 rfl rfl ?_
    refine r_aload_n (j := 0) B dX0_steps_94 rfl rfl ?_
    refine g0 (k := 2) B (vr (some 2)) rfl (fun z => by rw [((hS _).1 z).1 0 (by decide)]; rfl) rfl q358 rfl (fun z => by rw [((hS _).1 z).2 _ (List.mem_of_getElem? (i := 1) rfl)]; rfl) dX0_steps_95 ?_
    refine g1N (k := 0) B (vr (some 3)) rfl (fun z => by rw [((hS _).1 z).1 2 (by decide)]; rfl) rfl (lw_n q206 rfl) rfl (fun z => by rw [((hS _).1 z).2 _ (List.mem_of_getElem? (i := 17) rfl)]; rfl) dX0_steps_98 ?_
    refine r_iload_n (j := 1) B dX0_steps_101 rfl rfl ?_
    refine r_iload_n (j := 2) B dX0_steps_102 rfl rfl ?_
    refine r_bipush (v := 6) B dX0_steps_103 (by decide) ?_
    refine r_iload (j := 3) B dX0_steps_105 rfl ?_
    refine r_imul B dX0_steps_107 ?_
    refine r_iadd B dX0_steps_108 ?_
    obtain ⟨r2, s3, hc4, h⟩ := bnd_e h
    refine r_callVv (As := [vr (some 3), vi x1, vi (x2 + ((6 : Int32) * x5))]) (rest := []) B rfl rfl EX.same (c_X0_canGo B.ge hS hc4) (cw_X0_canGo rfl rfl) (fun z => RV.of 0 (by rw [((hS _).1 z).1 0 (by decide)]; rfl) rfl rfl qs21) q1213 q1215 rfl dX0_steps_109 ?_
    refine r_if_eq (tgt := 131) B dX0_steps_112 (by decide) (fun cn5 => ?_) (fun cn5 => ?_)
    · have h := ot cn5 h
      refine r_pick [0, 1, 2] (L' := [(0, vr (some 0)), (1, vi x1), (2, vi x2)]) rfl ?_
      exact w_X0_steps_131 B hS s3 x1 x2 h
    · have h := of cn5 h
      refine r_aload_n (j := 0) B dX0_steps_115 rfl rfl ?_
      refine g0 (k := 2) B (vr (some 2)) rfl (fun z => by rw [((hS _).1 z).1 0 (by decide)]; rfl) rfl q358 rfl (fun z => by rw [((hS _).1 z).2 _ (List.mem_of_getElem? (i := 1) rfl)]; rfl) dX0_steps_116 ?_
      refine g1N (k := 0) B (vr (some 3)) rfl (fun z => by rw [((hS _).1 z).1 2 (by decide)]; rfl) rfl (lw_n q206 rfl) rfl (fun z => by rw [((hS _).1 z).2 _ (List.mem_of_getElem? (i := 17) rfl)]; rfl) dX0_steps_119 ?_
      refine r_iload_n (j := 1) B dX0_steps_122 rfl rfl ?_
      refine r_iload_n (j := 2) B dX0_steps_123 rfl rfl ?_
      refine r_bipush (v := 6) B dX0_steps_124 (by decide) ?_
      refine r_iload (j := 3) B dX0_steps_126 rfl ?_
      refine r_imul B dX0_steps_128 ?_
      refine r_iadd B dX0_steps_129 ?_
      obtain ⟨hg6, h⟩ := gd_e h
      obtain ⟨s7, e8, h⟩ := nam_e h
      refine r_iast B e8 rfl (fun z => ((hS _).1 z).1 3 (by decide)) hg6 dX0_steps_130 ?_
      refine r_pick [0, 1, 2] (L' := [(0, vr (some 0)), (1, vi x1), (2, vi x2)]) rfl ?_
      exact w_X0_steps_131 B hS s7 x1 x2 h
set_option maxHeartbeats 4000000 in
noncomputable def F_X0_steps (s : St) (p0 : Int32) : Option (Int32 × St) := gd (inb p0 6) <| gd (inb p0 6) <| bnd (F_J13_signum s (((si s 7 p0.toNatClampNeg) - (si s 7 p0.toNatClampNeg) / (6 : Int32) * (6 : Int32)) - ((si s 3 p0.toNatClampNeg) - (si s 3 p0.toNatClampNeg) / (6 : Int32) * (6 : Int32)))) fun r3 s4 => gp (SkC s4) <| bnd (F_J13_signum s4 (((si s 7 p0.toNatClampNeg) / (6 : Int32)) - ((si s 3 p0.toNatClampNeg) / (6 : Int32)))) fun r7 s8 => gp (SkC s8) <| if r3 = 0 then (F_X0_steps_88 s8 p0 (si s 3 p0.toNatClampNeg) r7) else (bnd (F_X0_canGo s8 (some 3) p0 ((si s 3 p0.toNatClampNeg) + r3)) fun r12 s13 => if r12 = 0 then (F_X0_steps_88 s13 p0 (si s 3 p0.toNatClampNeg) r7) else (gd (inb p0 6) <| nam (setI s13 3 p0.toNatClampNeg ((si s 3 p0.toNatClampNeg) + r3)) fun s17 => F_X0_steps_131 s17 p0 (si s 3 p0.toNatClampNeg)))
set_option maxHeartbeats 4000000 in
theorem c_X0_steps {l : Launch} {E : EV} (hE : GE E) (hS : ∀ σ, eSk E σ ↔ SkC σ) {s s' : St} {r : Int32} {p0 : Int32} (h : F_X0_steps  s p0 = some (r, s')) : CT l E yX0_steps cX0_steps 6 (some .boolean) 246 13739 [vr (some 0), vi p0] s (some (vi r)) s' := by
  refine CT.start hE (by decide) rfl [(0, vr (some 0)), (1, vi p0)] rfl (fun X hX B => ?_)
  skip
  have B : FX X E cX0_steps 6 (some .boolean) "RoseThrow" "steps" (sn s) (ss s) 246 13739 := B
  unfold F_X0_steps at h
  refine r_aload_n (j := 0) B dX0_steps_0 rfl rfl ?_
  refine g0 (k := 2) B (vr (some 2)) rfl (fun z => by rw [((hS _).1 z).1 0 (by decide)]; rfl) rfl q358 rfl (fun z => by rw [((hS _).1 z).2 _ (List.mem_of_getElem? (i := 1) rfl)]; rfl) dX0_steps_1 ?_
  refine g1N (k := 0) B (vr (some 3)) rfl (fun z => by rw [((hS _).1 z).1 2 (by decide)]; rfl) rfl (lw_n q206 rfl) rfl (fun z => by rw [((hS _).1 z).2 _ (List.mem_of_getElem? (i := 17) rfl)]; rfl) dX0_steps_4 ?_
  refine r_iload_n (j := 1) B dX0_steps_7 rfl rfl ?_
  obtain ⟨hg1, h⟩ := gd_e h
  refine r_iald B rfl (fun z => ((hS _).1 z).1 3 (by decide)) hg1 dX0_steps_8 ?_
  refine r_istore_n (L' := [(0, vr (some 0)), (1, vi p0), (2, vi (si s 3 p0.toNatClampNeg))]) B dX0_steps_9 rfl (by decide) rfl rfl rfl ?_
  refine r_aload_n (j := 0) B dX0_steps_10 rfl rfl ?_
  refine g0 (k := 2) B (vr (some 2)) rfl (fun z => by rw [((hS _).1 z).1 0 (by decide)]; rfl) rfl q358 rfl (fun z => by rw [((hS _).1 z).2 _ (List.mem_of_getElem? (i := 1) rfl)]; rfl) dX0_steps_11 ?_
  refine g1N (k := 4) B (vr (some 7)) rfl (fun z => by rw [((hS _).1 z).1 2 (by decide)]; rfl) rfl (lw_n q214 rfl) rfl (fun z => by rw [((hS _).1 z).2 _ (List.mem_of_getElem? (i := 21) rfl)]; rfl) dX0_steps_14 ?_
  refine r_iload_n (j := 1) B dX0_steps_17 rfl rfl ?_
  obtain ⟨hg2, h⟩ := gd_e h
  refine r_iald B rfl (fun z => ((hS _).1 z).1 7 (by decide)) hg2 dX0_steps_18 ?_
  refine r_istore_n (L' := [(0, vr (some 0)), (1, vi p0), (2, vi (si s 3 p0.toNatClampNeg)), (3, vi (si s 7 p0.toNatClampNeg))]) B dX0_steps_19 rfl (by decide) rfl rfl rfl ?_
  refine r_iload_n (j := 3) B dX0_steps_20 rfl rfl ?_
  refine r_bipush (v := 6) B dX0_steps_21 (by decide) ?_
  refine r_irem B dX0_steps_23 (by decide) ?_
  refine r_iload_n (j := 2) B dX0_steps_24 rfl rfl ?_
  refine r_bipush (v := 6) B dX0_steps_25 (by decide) ?_
  refine r_irem B dX0_steps_27 (by decide) ?_
  refine r_isub B dX0_steps_28 ?_
  obtain ⟨r3, s4, hc5, h⟩ := bnd_e h
  obtain ⟨hg6, h⟩ := gp_e h
  refine r_callSv (As := [vi (((si s 7 p0.toNatClampNeg) - (si s 7 p0.toNatClampNeg) / (6 : Int32) * (6 : Int32)) - ((si s 3 p0.toNatClampNeg) - (si s 3 p0.toNatClampNeg) / (6 : Int32) * (6 : Int32)))]) (rest := []) B rfl (EX.noSk (fun _ => (hS _).2 hg6)) (c_J13_signum B.ge.noSk (fun _ => trivial) hc5) (cw_J13_signum rfl rfl) q1242 q1243 rfl dX0_steps_29 ?_
  refine r_istore (L' := [(0, vr (some 0)), (1, vi p0), (2, vi (si s 3 p0.toNatClampNeg)), (3, vi (si s 7 p0.toNatClampNeg)), (4, vi r3)]) B dX0_steps_32 (by decide) rfl rfl rfl ?_
  refine r_iload_n (j := 3) B dX0_steps_34 rfl rfl ?_
  refine r_bipush (v := 6) B dX0_steps_35 (by decide) ?_
  refine r_idiv B dX0_steps_37 (by decide) ?_
  refine r_iload_n (j := 2) B dX0_steps_38 rfl rfl ?_
  refine r_bipush (v := 6) B dX0_steps_39 (by decide) ?_
  refine r_idiv B dX0_steps_41 (by decide) ?_
  refine r_isub B dX0_steps_42 ?_
  obtain ⟨r7, s8, hc9, h⟩ := bnd_e h
  obtain ⟨hg10, h⟩ := gp_e h
  refine r_callSv (As := [vi (((si s 7 p0.toNatClampNeg) / (6 : Int32)) - ((si s 3 p0.toNatClampNeg) / (6 : Int32)))]) (rest := []) B rfl (EX.noSk (fun _ => (hS _).2 hg10)) (c_J13_signum B.ge.noSk (fun _ => trivial) hc9) (cw_J13_signum rfl rfl) q1242 q1243 rfl dX0_steps_43 ?_
  refine r_istore (L' := [(0, vr (some 0)), (1, vi p0), (2, vi (si s 3 p0.toNatClampNeg)), (3, vi (si s 7 p0.toNatClampNeg)), (4, vi r3), (5, vi r7)]) B dX0_steps_46 (by decide) rfl rfl rfl ?_
  refine r_iload (j := 4) B dX0_steps_48 rfl ?_
  refine r_if_eq (tgt := 88) B dX0_steps_50 (by decide) (fun cn11 => ?_) (fun cn11 => ?_)
  · have h := ot cn11 h
    refine r_pick [0, 1, 2, 5] (L' := [(0, vr (some 0)), (1, vi p0), (2, vi (si s 3 p0.toNatClampNeg)), (5, vi r7)]) rfl ?_
    exact w_X0_steps_88 B hS s8 p0 (si s 3 p0.toNatClampNeg) r7 h
  · have h := of cn11 h
    refine r_aload_n (j := 0) B dX0_steps_53 rfl rfl ?_
    refine r_aload_n (j := 0) B dX0_steps_54 rfl rfl ?_
    refine g0 (k := 2) B (vr (some 2)) rfl (fun z => by rw [((hS _).1 z).1 0 (by decide)]; rfl) rfl q358 rfl (fun z => by rw [((hS _).1 z).2 _ (List.mem_of_getElem? (i := 1) rfl)]; rfl) dX0_steps_55 ?_
    refine g1N (k := 0) B (vr (some 3)) rfl (fun z => by rw [((hS _).1 z).1 2 (by decide)]; rfl) rfl (lw_n q206 rfl) rfl (fun z => by rw [((hS _).1 z).2 _ (List.mem_of_getElem? (i := 17) rfl)]; rfl) dX0_steps_58 ?_
    refine r_iload_n (j := 1) B dX0_steps_61 rfl rfl ?_
    refine r_iload_n (j := 2) B dX0_steps_62 rfl rfl ?_
    refine r_iload (j := 4) B dX0_steps_63 rfl ?_
    refine r_iadd B dX0_steps_65 ?_
    obtain ⟨r12, s13, hc14, h⟩ := bnd_e h
    refine r_callVv (As := [vr (some 3), vi p0, vi ((si s 3 p0.toNatClampNeg) + r3)]) (rest := []) B rfl rfl EX.same (c_X0_canGo B.ge hS hc14) (cw_X0_canGo rfl rfl) (fun z => RV.of 0 (by rw [((hS _).1 z).1 0 (by decide)]; rfl) rfl rfl qs21) q1213 q1215 rfl dX0_steps_66 ?_
    refine r_if_eq (tgt := 88) B dX0_steps_69 (by decide) (fun cn15 => ?_) (fun cn15 => ?_)
    · have h := ot cn15 h
      refine r_pick [0, 1, 2, 5] (L' := [(0, vr (some 0)), (1, vi p0), (2, vi (si s 3 p0.toNatClampNeg)), (5, vi r7)]) rfl ?_
      exact w_X0_steps_88 B hS s13 p0 (si s 3 p0.toNatClampNeg) r7 h
    · have h := of cn15 h
      refine r_aload_n (j := 0) B dX0_steps_72 rfl rfl ?_
      refine g0 (k := 2) B (vr (some 2)) rfl (fun z => by rw [((hS _).1 z).1 0 (by decide)]; rfl) rfl q358 rfl (fun z => by rw [((hS _).1 z).2 _ (List.mem_of_getElem? (i := 1) rfl)]; rfl) dX0_steps_73 ?_
      refine g1N (k := 0) B (vr (some 3)) rfl (fun z => by rw [((hS _).1 z).1 2 (by decide)]; rfl) rfl (lw_n q206 rfl) rfl (fun z => by rw [((hS _).1 z).2 _ (List.mem_of_getElem? (i := 17) rfl)]; rfl) dX0_steps_76 ?_
      refine r_iload_n (j := 1) B dX0_steps_79 rfl rfl ?_
      refine r_iload_n (j := 2) B dX0_steps_80 rfl rfl ?_
      refine r_iload (j := 4) B dX0_steps_81 rfl ?_
      refine r_iadd B dX0_steps_83 ?_
      obtain ⟨hg16, h⟩ := gd_e h
      obtain ⟨s17, e18, h⟩ := nam_e h
      refine r_iast B e18 rfl (fun z => ((hS _).1 z).1 3 (by decide)) hg16 dX0_steps_84 ?_
      refine r_goto (tgt := 131) B dX0_steps_85 (by decide) ?_
      refine r_pick [0, 1, 2] (L' := [(0, vr (some 0)), (1, vi p0), (2, vi (si s 3 p0.toNatClampNeg))]) rfl ?_
      exact w_X0_steps_131 B hS s17 p0 (si s 3 p0.toNatClampNeg) h
set_option maxHeartbeats 4000000 in
theorem cw_X0_steps {X : CX} {fr lo : Nat} (h1 : Nat.ble (246 + 1) fr = true) (h2 : Nat.ble (25 + 13739) lo = true) : CW X fr lo yX0_steps cX0_steps 6 (some .boolean) 246 13739 1 := ⟨q1241, q126, ⟨by decide +kernel, by decide +kernel, by decide +kernel⟩, Nat.le_of_ble_eq_true h1, Nat.le_of_ble_eq_true h2⟩

set_option maxHeartbeats 4000000 in
noncomputable def F_X0_rushesKept_59 (k22 : St → Int32 → Int32 → Option (Int32 × St)) (s : St) (x2 : Int32) (z0 : Int32) : Option (Int32 × St) := k22 s (z0 + (0 : Int32)) (x2 + (1))
set_option maxHeartbeats 4000000 in
theorem w_X0_rushesKept_59 {X : CX} {E : EV} {a0 s' : St} {r : Int32} (B : FX X E cX0_rushesKept 3 (some .int) "RoseThrow" "rushesKept" (sn a0) (ss a0) 247 13764) (hS : ∀ σ, eSk E σ ↔ SkC σ) (k22 : St → Int32 → Int32 → Option (Int32 × St)) (hk22 : ∀ (s : St) (x1 : Int32) (x2 : Int32), k22 s x1 x2 = some (r, s') → J X E (sn a0) (ss a0) 3 (QR X E a0 (some (vi r)) s') s 22 [(0, vr (some 0)), (1, vi x1), (2, vi x2)] []) (s : St) (x2 : Int32) (z0 : Int32) (h : F_X0_rushesKept_59  k22 s x2 z0 = some (r, s')) : J X E (sn a0) (ss a0) 3 (QR X E a0 (some (vi r)) s') s 59 [(0, vr (some 0)), (2, vi x2)] [vi z0] := by
  unfold F_X0_rushesKept_59 at h
  refine r_iconst (v := 0) B dX0_rushesKept_59 (by decide) ?_
  refine r_iadd B dX0_rushesKept_60 ?_
  refine r_istore_n (L' := [(0, vr (some 0)), (1, vi (z0 + (0 : Int32))), (2, vi x2)]) B dX0_rushesKept_61 rfl (by decide) rfl rfl rfl ?_
  refine r_iinc (j := 2) (v := (x2 + (1))) (L' := [(0, vr (some 0)), (1, vi (z0 + (0 : Int32))), (2, vi (x2 + (1)))]) B dX0_rushesKept_62 rfl rfl (by decide) rfl rfl rfl ?_
  refine r_goto (tgt := 22) B dX0_rushesKept_65 (by decide) ?_
  exact hk22 s (z0 + (0 : Int32)) (x2 + (1)) h
set_option maxHeartbeats 4000000 in
noncomputable def F_X0_rushesKept_22 : Nat → St → Int32 → Int32 → Option (Int32 × St)
  | 0 => fun _ _ _ => none
  | n + 1 => fun s x1 x2 => if (si s 2 8) ≤ x2 then (some (x1, s)) else (gd (inb x2 6) <| if (si s 7 x2.toNatClampNeg) = (-1 : Int32) then (F_X0_rushesKept_59 (F_X0_rushesKept_22  n) s x2 x1) else (bnd (F_X0_steps s x2) fun r4 s5 => if r4 = 0 then (F_X0_rushesKept_59 (F_X0_rushesKept_22  n) s5 x2 x1) else (F_X0_rushesKept_22  n s5 (x1 + (1 : Int32)) (x2 + (1)))))
set_option maxHeartbeats 4000000 in
theorem w_X0_rushesKept_22 {X : CX} {E : EV} {a0 s' : St} {r : Int32} (B : FX X E cX0_rushesKept 3 (some .int) "RoseThrow" "rushesKept" (sn a0) (ss a0) 247 13764) (hS : ∀ σ, eSk E σ ↔ SkC σ) : ∀ (n : Nat) (s : St) (x1 : Int32) (x2 : Int32), F_X0_rushesKept_22   n s x1 x2 = some (r, s') → J X E (sn a0) (ss a0) 3 (QR X E a0 (some (vi r)) s') s 22 [(0, vr (some 0)), (1, vi x1), (2, vi x2)] [] := by
  intro n
  induction n with
  | zero => intro s x1 x2 h; exact absurd (show (none : Option (Int32 × St)) = _ from h) (by simp)
  | succ n ih =>
    intro s x1 x2 h
    rw [F_X0_rushesKept_22] at h
    refine r_iload_n (j := 2) B dX0_rushesKept_22 rfl rfl ?_
    refine r_aload_n (j := 0) B dX0_rushesKept_23 rfl rfl ?_
    refine g0 (k := 2) B (vr (some 2)) rfl (fun z => by rw [((hS _).1 z).1 0 (by decide)]; rfl) rfl q358 rfl (fun z => by rw [((hS _).1 z).2 _ (List.mem_of_getElem? (i := 1) rfl)]; rfl) dX0_rushesKept_24 ?_
    refine g1N (k := 8) B (vi (si s 2 8)) rfl (fun z => by rw [((hS _).1 z).1 2 (by decide)]; rfl) rfl (lw_n q222 rfl) rfl (fun _ => rfl) dX0_rushesKept_27 ?_
    refine r_ic_ge (tgt := 68) B dX0_rushesKept_30 (by decide) (fun cn1 => ?_) (fun cn1 => ?_)
    · have h := ot cn1 h
      refine r_iload_n (j := 1) B dX0_rushesKept_68 rfl rfl ?_
      exact r_iret B dX0_rushesKept_69 h
    · have h := of cn1 h
      refine r_iload_n (j := 1) B dX0_rushesKept_33 rfl rfl ?_
      refine r_aload_n (j := 0) B dX0_rushesKept_34 rfl rfl ?_
      refine g0 (k := 2) B (vr (some 2)) rfl (fun z => by rw [((hS _).1 z).1 0 (by decide)]; rfl) rfl q358 rfl (fun z => by rw [((hS _).1 z).2 _ (List.mem_of_getElem? (i := 1) rfl)]; rfl) dX0_rushesKept_35 ?_
      refine g1N (k := 4) B (vr (some 7)) rfl (fun z => by rw [((hS _).1 z).1 2 (by decide)]; rfl) rfl (lw_n q214 rfl) rfl (fun z => by rw [((hS _).1 z).2 _ (List.mem_of_getElem? (i := 21) rfl)]; rfl) dX0_rushesKept_38 ?_
      refine r_iload_n (j := 2) B dX0_rushesKept_41 rfl rfl ?_
      obtain ⟨hg2, h⟩ := gd_e h
      refine r_iald B rfl (fun z => ((hS _).1 z).1 7 (by decide)) hg2 dX0_rushesKept_42 ?_
      refine r_iconst (v := -1) B dX0_rushesKept_43 (by decide) ?_
      refine r_ic_eq (tgt := 59) B dX0_rushesKept_44 (by decide) (fun cn3 => ?_) (fun cn3 => ?_)
      · have h := ot cn3 h
        refine r_pick [0, 2] (L' := [(0, vr (some 0)), (2, vi x2)]) rfl ?_
        exact w_X0_rushesKept_59 B hS (F_X0_rushesKept_22  n) ih s x2 x1 h
      · have h := of cn3 h
        refine r_aload_n (j := 0) B dX0_rushesKept_47 rfl rfl ?_
        refine r_iload_n (j := 2) B dX0_rushesKept_48 rfl rfl ?_
        obtain ⟨r4, s5, hc6, h⟩ := bnd_e h
        refine r_callVv (As := [vi x2]) (rest := [vi x1]) B rfl rfl EX.same (c_X0_steps B.ge hS hc6) (cw_X0_steps rfl rfl) (fun z => RV.of 0 (by rw [((hS _).1 z).1 0 (by decide)]; rfl) rfl rfl qs25) q1238 q1240 rfl dX0_rushesKept_49 ?_
        refine r_if_eq (tgt := 59) B dX0_rushesKept_52 (by decide) (fun cn7 => ?_) (fun cn7 => ?_)
        · have h := ot cn7 h
          refine r_pick [0, 2] (L' := [(0, vr (some 0)), (2, vi x2)]) rfl ?_
          exact w_X0_rushesKept_59 B hS (F_X0_rushesKept_22  n) ih s5 x2 x1 h
        · have h := of cn7 h
          refine r_iconst (v := 1) B dX0_rushesKept_55 (by decide) ?_
          refine r_goto (tgt := 60) B dX0_rushesKept_56 (by decide) ?_
          refine r_iadd B dX0_rushesKept_60 ?_
          refine r_istore_n (L' := [(0, vr (some 0)), (1, vi (x1 + (1 : Int32))), (2, vi x2)]) B dX0_rushesKept_61 rfl (by decide) rfl rfl rfl ?_
          refine r_iinc (j := 2) (v := (x2 + (1))) (L' := [(0, vr (some 0)), (1, vi (x1 + (1 : Int32))), (2, vi (x2 + (1)))]) B dX0_rushesKept_62 rfl rfl (by decide) rfl rfl rfl ?_
          refine r_goto (tgt := 22) B dX0_rushesKept_65 (by decide) ?_
          exact ih s5 (x1 + (1 : Int32)) (x2 + (1)) h
set_option maxHeartbeats 4000000 in
noncomputable def F_X0_rushesKept (s : St)  : Option (Int32 × St) := if (si s 2 8) = 0 then (some ((-3 : Int32), s)) else (bnd (F_X0_keeps s (1 : Int32)) fun _ s3 => F_X0_rushesKept_22 FU s3 (0 : Int32) (0 : Int32))
set_option maxHeartbeats 4000000 in
theorem c_X0_rushesKept {l : Launch} {E : EV} (hE : GE E) (hS : ∀ σ, eSk E σ ↔ SkC σ) {s s' : St} {r : Int32}  (h : F_X0_rushesKept  s  = some (r, s')) : CT l E yX0_rushesKept cX0_rushesKept 3 (some .int) 247 13764 [vr (some 0)] s (some (vi r)) s' := by
  refine CT.start hE (by decide) rfl [(0, vr (some 0))] rfl (fun X hX B => ?_)
  skip
  have B : FX X E cX0_rushesKept 3 (some .int) "RoseThrow" "rushesKept" (sn s) (ss s) 247 13764 := B
  unfold F_X0_rushesKept at h
  refine r_aload_n (j := 0) B dX0_rushesKept_0 rfl rfl ?_
  refine g0 (k := 2) B (vr (some 2)) rfl (fun z => by rw [((hS _).1 z).1 0 (by decide)]; rfl) rfl q358 rfl (fun z => by rw [((hS _).1 z).2 _ (List.mem_of_getElem? (i := 1) rfl)]; rfl) dX0_rushesKept_1 ?_
  refine g1N (k := 8) B (vi (si s 2 8)) rfl (fun z => by rw [((hS _).1 z).1 2 (by decide)]; rfl) rfl (lw_n q222 rfl) rfl (fun _ => rfl) dX0_rushesKept_4 ?_
  refine r_if_ne (tgt := 13) B dX0_rushesKept_7 (by decide) (fun cn1 => ?_) (fun cn1 => ?_)
  · have h := of cn1 h
    refine r_aload_n (j := 0) B dX0_rushesKept_13 rfl rfl ?_
    refine r_iconst (v := 1) B dX0_rushesKept_14 (by decide) ?_
    obtain ⟨r2, s3, hc4, h⟩ := bnd_e h
    refine r_callV0 (As := [vi (1 : Int32)]) (rest := []) B rfl rfl EX.same (c_X0_keeps B.ge hS hc4) (cw_X0_keeps rfl rfl) (fun z => RV.of 0 (by rw [((hS _).1 z).1 0 (by decide)]; rfl) rfl rfl qs22) q1217 q1219 rfl dX0_rushesKept_15 ?_
    refine r_iconst (v := 0) B dX0_rushesKept_18 (by decide) ?_
    refine r_istore_n (L' := [(0, vr (some 0)), (1, vi (0 : Int32))]) B dX0_rushesKept_19 rfl (by decide) rfl rfl rfl ?_
    refine r_iconst (v := 0) B dX0_rushesKept_20 (by decide) ?_
    refine r_istore_n (L' := [(0, vr (some 0)), (1, vi (0 : Int32)), (2, vi (0 : Int32))]) B dX0_rushesKept_21 rfl (by decide) rfl rfl rfl ?_
    exact w_X0_rushesKept_22 B hS FU s3 (0 : Int32) (0 : Int32) h
  · have h := ot cn1 h
    refine r_bipush (v := -3) B dX0_rushesKept_10 (by decide) ?_
    exact r_iret B dX0_rushesKept_12 h
set_option maxHeartbeats 4000000 in
theorem cw_X0_rushesKept {X : CX} {fr lo : Nat} (h1 : Nat.ble (247 + 1) fr = true) (h2 : Nat.ble (22 + 13764) lo = true) : CW X fr lo yX0_rushesKept cX0_rushesKept 3 (some .int) 247 13764 0 := ⟨q1237, q126, ⟨by decide +kernel, by decide +kernel, by decide +kernel⟩, Nat.le_of_ble_eq_true h1, Nat.le_of_ble_eq_true h2⟩

set_option maxHeartbeats 4000000 in
noncomputable def F_X0_rush (s : St)  : Option (Int32 × St) := bnd (F_X0_rushesKept s) fun r1 s2 => if 0 ≤ r1 then (bnd (F_X0_done s2 r1) fun r5 s6 => some (r5, s6)) else (bnd (F_X0_refuse s2 r1) fun r8 s9 => some (r8, s9))
set_option maxHeartbeats 4000000 in
theorem c_X0_rush {l : Launch} {E : EV} (hE : GE E) (hS : ∀ σ, eSk E σ ↔ SkC σ) {s s' : St} {r : Int32}  (h : F_X0_rush  s  = some (r, s')) : CT l E yX0_rush cX0_rush 2 (some .int) 248 13786 [vr (some 0)] s (some (vi r)) s' := by
  refine CT.start hE (by decide) rfl [(0, vr (some 0))] rfl (fun X hX B => ?_)
  skip
  have B : FX X E cX0_rush 2 (some .int) "RoseThrow" "rush" (sn s) (ss s) 248 13786 := B
  unfold F_X0_rush at h
  refine r_aload_n (j := 0) B dX0_rush_0 rfl rfl ?_
  obtain ⟨r1, s2, hc3, h⟩ := bnd_e h
  refine r_callVv (As := []) (rest := []) B rfl rfl EX.same (c_X0_rushesKept B.ge hS hc3) (cw_X0_rushesKept rfl rfl) (fun z => RV.of 0 (by rw [((hS _).1 z).1 0 (by decide)]; rfl) rfl rfl qs24) q1234 q1236 rfl dX0_rush_1 ?_
  refine r_istore_n (L' := [(0, vr (some 0)), (1, vi r1)]) B dX0_rush_4 rfl (by decide) rfl rfl rfl ?_
  refine r_iload_n (j := 1) B dX0_rush_5 rfl rfl ?_
  refine r_if_ge (tgt := 17) B dX0_rush_6 (by decide) (fun cn4 => ?_) (fun cn4 => ?_)
  · have h := ot cn4 h
    refine r_aload_n (j := 0) B dX0_rush_17 rfl rfl ?_
    refine r_iload_n (j := 1) B dX0_rush_18 rfl rfl ?_
    obtain ⟨r5, s6, hc7, h⟩ := bnd_e h
    refine r_callVv (As := [vi r1]) (rest := []) B rfl rfl EX.same (c_X0_done B.ge hS hc7) (cw_X0_done rfl rfl) (fun z => RV.of 0 (by rw [((hS _).1 z).1 0 (by decide)]; rfl) rfl rfl qs3) q533 q535 rfl dX0_rush_19 ?_
    exact r_iret B dX0_rush_22 h
  · have h := of cn4 h
    refine r_aload_n (j := 0) B dX0_rush_9 rfl rfl ?_
    refine r_iload_n (j := 1) B dX0_rush_10 rfl rfl ?_
    obtain ⟨r8, s9, hc10, h⟩ := bnd_e h
    refine r_callVv (As := [vi r1]) (rest := []) B rfl rfl EX.same (c_X0_refuse B.ge hS hc10) (cw_X0_refuse rfl rfl) (fun z => RV.of 0 (by rw [((hS _).1 z).1 0 (by decide)]; rfl) rfl rfl qs1) q448 q450 rfl dX0_rush_11 ?_
    refine r_goto (tgt := 22) B dX0_rush_14 (by decide) ?_
    exact r_iret B dX0_rush_22 h
set_option maxHeartbeats 4000000 in
theorem cw_X0_rush {X : CX} {fr lo : Nat} (h1 : Nat.ble (248 + 1) fr = true) (h2 : Nat.ble (21 + 13786) lo = true) : CW X fr lo yX0_rush cX0_rush 2 (some .int) 248 13786 0 := ⟨q1233, q126, ⟨by decide +kernel, by decide +kernel, by decide +kernel⟩, Nat.le_of_ble_eq_true h1, Nat.le_of_ble_eq_true h2⟩

set_option maxHeartbeats 4000000 in
noncomputable def F_X0_undo (s : St)  : Option (Int32 × St) := if (si s 0 15) = 0 then (bnd (F_X0_refuse s (-3 : Int32)) fun r11 s12 => some (r11, s12)) else (nam (setI s 0 15 ((si s 0 15) - (1 : Int32))) fun s2 => gd (okC ((6 : Int32) * (si s2 0 15)) (0 : Int32) (6 : Int32) 96 6) <| nam (cpyI s2 13 ((6 : Int32) * (si s2 0 15)).toNatClampNeg 3 (0 : Int32).toNatClampNeg (6 : Int32).toNatClampNeg) fun s5 => gd (inb (si s5 0 15) 16) <| bnd (F_X0_done s5 (si s5 14 (si s5 0 15).toNatClampNeg)) fun r8 s9 => some (r8, s9))
set_option maxHeartbeats 4000000 in
theorem c_X0_undo {l : Launch} {E : EV} (hE : GE E) (hS : ∀ σ, eSk E σ ↔ SkC σ) {s s' : St} {r : Int32}  (h : F_X0_undo  s  = some (r, s')) : CT l E yX0_undo cX0_undo 1 (some .int) 1 60 [vr (some 0)] s (some (vi r)) s' := by
  refine CT.start hE (by decide) rfl [(0, vr (some 0))] rfl (fun X hX B => ?_)
  skip
  have B : FX X E cX0_undo 1 (some .int) "RoseThrow" "undo" (sn s) (ss s) 1 60 := B
  unfold F_X0_undo at h
  refine r_aload_n (j := 0) B dX0_undo_0 rfl rfl ?_
  refine g0 (k := 15) B (vi (si s 0 15)) rfl (fun z => by rw [((hS _).1 z).1 0 (by decide)]; rfl) rfl q371 rfl (fun _ => rfl) dX0_undo_1 ?_
  refine r_if_ne (tgt := 14) B dX0_undo_4 (by decide) (fun cn1 => ?_) (fun cn1 => ?_)
  · have h := of cn1 h
    refine r_aload_n (j := 0) B dX0_undo_14 rfl rfl ?_
    refine r_dup B dX0_undo_15 rfl ?_
    refine g0 (k := 15) B (vi (si s 0 15)) rfl (fun z => by rw [((hS _).1 z).1 0 (by decide)]; rfl) rfl q371 rfl (fun _ => rfl) dX0_undo_16 ?_
    refine r_iconst (v := 1) B dX0_undo_19 (by decide) ?_
    refine r_isub B dX0_undo_20 ?_
    obtain ⟨s2, e3, h⟩ := nam_e h
    refine pI0 (k := 15) B e3 rfl (fun z => by rw [((hS _).1 z).1 0 (by decide)]; rfl) rfl q371 rfl rfl (fun _ _ _ => rfl) rfl dX0_undo_21 ?_
    refine r_aload_n (j := 0) B dX0_undo_24 rfl rfl ?_
    refine g0 (k := 4) B (vr (some 13)) rfl (fun z => by rw [((hS _).1 z).1 0 (by decide)]; rfl) rfl q360 rfl (fun z => by rw [((hS _).1 z).2 _ (List.mem_of_getElem? (i := 3) rfl)]; rfl) dX0_undo_25 ?_
    refine r_bipush (v := 6) B dX0_undo_28 (by decide) ?_
    refine r_aload_n (j := 0) B dX0_undo_30 rfl rfl ?_
    refine g0 (k := 15) B (vi (si s2 0 15)) rfl (fun z => by rw [((hS _).1 z).1 0 (by decide)]; rfl) rfl q371 rfl (fun _ => rfl) dX0_undo_31 ?_
    refine r_imul B dX0_undo_34 ?_
    refine r_aload_n (j := 0) B dX0_undo_35 rfl rfl ?_
    refine g0 (k := 2) B (vr (some 2)) rfl (fun z => by rw [((hS _).1 z).1 0 (by decide)]; rfl) rfl q358 rfl (fun z => by rw [((hS _).1 z).2 _ (List.mem_of_getElem? (i := 1) rfl)]; rfl) dX0_undo_36 ?_
    refine g1N (k := 0) B (vr (some 3)) rfl (fun z => by rw [((hS _).1 z).1 2 (by decide)]; rfl) rfl (lw_n q206 rfl) rfl (fun z => by rw [((hS _).1 z).2 _ (List.mem_of_getElem? (i := 17) rfl)]; rfl) dX0_undo_39 ?_
    refine r_iconst (v := 0) B dX0_undo_42 (by decide) ?_
    refine r_bipush (v := 6) B dX0_undo_43 (by decide) ?_
    obtain ⟨hg4, h⟩ := gd_e h
    obtain ⟨s5, e6, h⟩ := nam_e h
    refine r_copyI B e6 rfl rfl (fun z => ((hS _).1 z).1 13 (by decide)) (fun z => ((hS _).1 z).1 3 (by decide)) hg4 q1221 q461 q460 q157 (by decide) (by decide) rfl dX0_undo_45 ?_
    refine r_aload_n (j := 0) B dX0_undo_48 rfl rfl ?_
    refine r_aload_n (j := 0) B dX0_undo_49 rfl rfl ?_
    refine g0 (k := 5) B (vr (some 14)) rfl (fun z => by rw [((hS _).1 z).1 0 (by decide)]; rfl) rfl q361 rfl (fun z => by rw [((hS _).1 z).2 _ (List.mem_of_getElem? (i := 4) rfl)]; rfl) dX0_undo_50 ?_
    refine r_aload_n (j := 0) B dX0_undo_53 rfl rfl ?_
    refine g0 (k := 15) B (vi (si s5 0 15)) rfl (fun z => by rw [((hS _).1 z).1 0 (by decide)]; rfl) rfl q371 rfl (fun _ => rfl) dX0_undo_54 ?_
    obtain ⟨hg7, h⟩ := gd_e h
    refine r_iald B rfl (fun z => ((hS _).1 z).1 14 (by decide)) hg7 dX0_undo_57 ?_
    obtain ⟨r8, s9, hc10, h⟩ := bnd_e h
    refine r_callVv (As := [vi (si s5 14 (si s5 0 15).toNatClampNeg)]) (rest := []) B rfl rfl EX.same (c_X0_done B.ge hS hc10) (cw_X0_done rfl rfl) (fun z => RV.of 0 (by rw [((hS _).1 z).1 0 (by decide)]; rfl) rfl rfl qs3) q533 q535 rfl dX0_undo_58 ?_
    exact r_iret B dX0_undo_61 h
  · have h := ot cn1 h
    refine r_aload_n (j := 0) B dX0_undo_7 rfl rfl ?_
    refine r_bipush (v := -3) B dX0_undo_8 (by decide) ?_
    obtain ⟨r11, s12, hc13, h⟩ := bnd_e h
    refine r_callVv (As := [vi (-3 : Int32)]) (rest := []) B rfl rfl EX.same (c_X0_refuse B.ge hS hc13) (cw_X0_refuse rfl rfl) (fun z => RV.of 0 (by rw [((hS _).1 z).1 0 (by decide)]; rfl) rfl rfl qs1) q448 q450 rfl dX0_undo_10 ?_
    exact r_iret B dX0_undo_13 h
set_option maxHeartbeats 4000000 in
theorem cw_X0_undo {X : CX} {fr lo : Nat} (h1 : Nat.ble (1 + 1) fr = true) (h2 : Nat.ble (20 + 60) lo = true) : CW X fr lo yX0_undo cX0_undo 1 (some .int) 1 60 0 := ⟨q1248, q126, ⟨by decide +kernel, by decide +kernel, by decide +kernel⟩, Nat.le_of_ble_eq_true h1, Nat.le_of_ble_eq_true h2⟩

set_option maxHeartbeats 4000000 in
noncomputable def F_X0_cellAt (s : St) (p0 : Int32) (p1 : Int32) : Option (Int32 × St) := bnd (F_X0_in s p0 (0 : Int32) (5 : Int32)) fun r1 s2 => if r1 = 0 then (some ((-1 : Int32), s2)) else (bnd (F_X0_in s2 p1 (0 : Int32) (5 : Int32)) fun r5 s6 => if r5 = 0 then (some ((-1 : Int32), s6)) else (some ((((6 : Int32) * p1) + p0), s6)))
set_option maxHeartbeats 4000000 in
theorem c_X0_cellAt {l : Launch} {E : EV} (hE : GE E) (hS : ∀ σ, eSk E σ ↔ SkC σ) {s s' : St} {r : Int32} {p0 : Int32} {p1 : Int32} (h : F_X0_cellAt  s p0 p1 = some (r, s')) : CT l E yX0_cellAt cX0_cellAt 2 (some .int) 1 22 [vi p0, vi p1] s (some (vi r)) s' := by
  refine CT.start hE (by decide) rfl [(0, vi p0), (1, vi p1)] rfl (fun X hX B => ?_)
  skip
  have B : FX X E cX0_cellAt 2 (some .int) "RoseThrow" "cellAt" (sn s) (ss s) 1 22 := B
  unfold F_X0_cellAt at h
  refine r_iload_n (j := 0) B dX0_cellAt_0 rfl rfl ?_
  refine r_iconst (v := 0) B dX0_cellAt_1 (by decide) ?_
  refine r_iconst (v := 5) B dX0_cellAt_2 (by decide) ?_
  obtain ⟨r1, s2, hc3, h⟩ := bnd_e h
  refine r_callSv (As := [vi p0, vi (0 : Int32), vi (5 : Int32)]) (rest := []) B rfl EX.same (c_X0_in B.ge hS hc3) (cw_X0_in rfl rfl) q445 q446 rfl dX0_cellAt_3 ?_
  refine r_if_eq (tgt := 27) B dX0_cellAt_6 (by decide) (fun cn4 => ?_) (fun cn4 => ?_)
  · have h := ot cn4 h
    refine r_iconst (v := -1) B dX0_cellAt_27 (by decide) ?_
    exact r_iret B dX0_cellAt_28 h
  · have h := of cn4 h
    refine r_iload_n (j := 1) B dX0_cellAt_9 rfl rfl ?_
    refine r_iconst (v := 0) B dX0_cellAt_10 (by decide) ?_
    refine r_iconst (v := 5) B dX0_cellAt_11 (by decide) ?_
    obtain ⟨r5, s6, hc7, h⟩ := bnd_e h
    refine r_callSv (As := [vi p1, vi (0 : Int32), vi (5 : Int32)]) (rest := []) B rfl EX.same (c_X0_in B.ge hS hc7) (cw_X0_in rfl rfl) q445 q446 rfl dX0_cellAt_12 ?_
    refine r_if_eq (tgt := 27) B dX0_cellAt_15 (by decide) (fun cn8 => ?_) (fun cn8 => ?_)
    · have h := ot cn8 h
      refine r_iconst (v := -1) B dX0_cellAt_27 (by decide) ?_
      exact r_iret B dX0_cellAt_28 h
    · have h := of cn8 h
      refine r_bipush (v := 6) B dX0_cellAt_18 (by decide) ?_
      refine r_iload_n (j := 1) B dX0_cellAt_20 rfl rfl ?_
      refine r_imul B dX0_cellAt_21 ?_
      refine r_iload_n (j := 0) B dX0_cellAt_22 rfl rfl ?_
      refine r_iadd B dX0_cellAt_23 ?_
      refine r_goto (tgt := 28) B dX0_cellAt_24 (by decide) ?_
      exact r_iret B dX0_cellAt_28 h
set_option maxHeartbeats 4000000 in
theorem cw_X0_cellAt {X : CX} {fr lo : Nat} (h1 : Nat.ble (1 + 1) fr = true) (h2 : Nat.ble (21 + 22) lo = true) : CW X fr lo yX0_cellAt cX0_cellAt 2 (some .int) 1 22 2 := ⟨q1268, q126, ⟨by decide +kernel, by decide +kernel, by decide +kernel⟩, Nat.le_of_ble_eq_true h1, Nat.le_of_ble_eq_true h2⟩

set_option maxHeartbeats 4000000 in
noncomputable def F_X4_lampOn_2 : Nat → St → Option Nat → Int32 → Int32 → Int32 → Option (Int32 × St)
  | 0 => fun _ _ _ _ _ => none
  | n + 1 => fun s x0 x1 x2 x3 => if x1 ≤ x3 then (some ((-1 : Int32), s)) else (drf x0 fun a2 => gd (isK s a2 4) <| gd (isR (sr s a2 4) 0) <| bnd (F_X0_term s (6 : Int32)) fun r6 s7 => if r6 = (-1 : Int32) then (F_X4_lampOn_2  n s7 x0 x1 x2 (x3 + (1))) else (drf x0 fun a10 => gd (isK s7 a10 4) <| gd (isR (sr s7 a10 4) 0) <| bnd (F_X0_term s7 (4 : Int32)) fun r14 s15 => gd (nzi x1) <| bnd (F_X0_cellAt s15 (r14 + ((x2 * x3) / x1)) x3) fun r18 s19 => drf x0 fun a21 => gd (isK s19 a21 4) <| gd (isR (sr s19 a21 4) 0) <| bnd (F_X0_term s19 (6 : Int32)) fun r25 s26 => if r18 = r25 then (drf x0 fun a29 => gd (isK s26 a29 4) <| gd (isR (sr s26 a29 4) 0) <| bnd (F_X0_term s26 (7 : Int32)) fun r33 s34 => drf x0 fun a36 => gd (isK s34 a36 4) <| gd (isR (sr s34 a36 4) 0) <| bnd (F_X0_term s34 (2 : Int32)) fun r40 s41 => if r40 < r33 then (F_X4_lampOn_2  n s41 x0 x1 x2 (x3 + (1))) else (drf x0 fun a44 => gd (isK s41 a44 4) <| gd (isR (sr s41 a44 4) 0) <| bnd (F_X0_term s41 (6 : Int32)) fun r48 s49 => some (r48, s49))) else (F_X4_lampOn_2  n s26 x0 x1 x2 (x3 + (1)))))
set_option maxHeartbeats 4000000 in
theorem w_X4_lampOn_2 {X : CX} {E : EV} {a0 s' : St} {r : Int32} (B : FX X E cX4_lampOn 4 (some .int) "RoseThrow$Flight" "lampOn" (sn a0) (ss a0) 2 43) (hS : ∀ σ, eSk E σ ↔ SkC σ) : ∀ (n : Nat) (s : St) (x0 : Option Nat) (x1 : Int32) (x2 : Int32) (x3 : Int32), F_X4_lampOn_2   n s x0 x1 x2 x3 = some (r, s') → J X E (sn a0) (ss a0) 4 (QR X E a0 (some (vi r)) s') s 2 [(0, vr x0), (1, vi x1), (2, vi x2), (3, vi x3)] [] := by
  intro n
  induction n with
  | zero => intro s x0 x1 x2 x3 h; exact absurd (show (none : Option (Int32 × St)) = _ from h) (by simp)
  | succ n ih =>
    intro s x0 x1 x2 x3 h
    rw [F_X4_lampOn_2] at h
    refine r_iload_n (j := 3) B dX4_lampOn_2 rfl rfl ?_
    refine r_iload_n (j := 1) B dX4_lampOn_3 rfl rfl ?_
    refine r_ic_ge (tgt := 86) B dX4_lampOn_4 (by decide) (fun cn1 => ?_) (fun cn1 => ?_)
    · have h := ot cn1 h
      refine r_iconst (v := -1) B dX4_lampOn_86 (by decide) ?_
      exact r_iret B dX4_lampOn_87 h
    · have h := of cn1 h
      refine r_aload_n (j := 0) B dX4_lampOn_7 rfl rfl ?_
      obtain ⟨a2, ea3, h⟩ := drf_e h
      obtain ⟨hg4, h⟩ := gd_e h
      refine g4 (k := 4) B (vr (sr s a2 4)) ea3 (fun _ => isK_e hg4) rfl q343 rfl (fun _ => rfl) dX4_lampOn_8 ?_
      refine r_bipush (v := 6) B dX4_lampOn_11 (by decide) ?_
      obtain ⟨hg5, h⟩ := gd_e h
      obtain ⟨r6, s7, hc8, h⟩ := bnd_e h
      refine r_callVNv (As := [vi (6 : Int32)]) (rest := []) B rfl (isR_e hg5) EX.same (c_X0_term B.ge hS hc8) (cw_X0_term rfl rfl) (fun z => RV.of 0 (by rw [((hS _).1 z).1 0 (by decide)]; rfl) rfl rfl qs10) (lw_n q1265 rfl) q578 rfl dX4_lampOn_13 ?_
      refine r_iconst (v := -1) B dX4_lampOn_16 (by decide) ?_
      refine r_ic_eq (tgt := 80) B dX4_lampOn_17 (by decide) (fun cn9 => ?_) (fun cn9 => ?_)
      · have h := ot cn9 h
        refine r_iinc (j := 3) (v := (x3 + (1))) (L' := [(0, vr x0), (1, vi x1), (2, vi x2), (3, vi (x3 + (1)))]) B dX4_lampOn_80 rfl rfl (by decide) rfl rfl rfl ?_
        refine r_goto (tgt := 2) B dX4_lampOn_83 (by decide) ?_
        exact ih s7 x0 x1 x2 (x3 + (1)) h
      · have h := of cn9 h
        refine r_aload_n (j := 0) B dX4_lampOn_20 rfl rfl ?_
        obtain ⟨a10, ea11, h⟩ := drf_e h
        obtain ⟨hg12, h⟩ := gd_e h
        refine g4 (k := 4) B (vr (sr s7 a10 4)) ea11 (fun _ => isK_e hg12) rfl q343 rfl (fun _ => rfl) dX4_lampOn_21 ?_
        refine r_iconst (v := 4) B dX4_lampOn_24 (by decide) ?_
        obtain ⟨hg13, h⟩ := gd_e h
        obtain ⟨r14, s15, hc16, h⟩ := bnd_e h
        refine r_callVNv (As := [vi (4 : Int32)]) (rest := []) B rfl (isR_e hg13) EX.same (c_X0_term B.ge hS hc16) (cw_X0_term rfl rfl) (fun z => RV.of 0 (by rw [((hS _).1 z).1 0 (by decide)]; rfl) rfl rfl qs10) (lw_n q1265 rfl) q578 rfl dX4_lampOn_25 ?_
        refine r_iload_n (j := 2) B dX4_lampOn_28 rfl rfl ?_
        refine r_iload_n (j := 3) B dX4_lampOn_29 rfl rfl ?_
        refine r_imul B dX4_lampOn_30 ?_
        refine r_iload_n (j := 1) B dX4_lampOn_31 rfl rfl ?_
        obtain ⟨hg17, h⟩ := gd_e h
        refine r_idiv B dX4_lampOn_32 (nzi_e hg17) ?_
        refine r_iadd B dX4_lampOn_33 ?_
        refine r_iload_n (j := 3) B dX4_lampOn_34 rfl rfl ?_
        obtain ⟨r18, s19, hc20, h⟩ := bnd_e h
        refine r_callSNv (As := [vi (r14 + ((x2 * x3) / x1)), vi x3]) (rest := []) B rfl EX.same (c_X0_cellAt B.ge hS hc20) (cw_X0_cellAt rfl rfl) (lw_n q1266 rfl) q1267 rfl dX4_lampOn_35 ?_
        refine r_aload_n (j := 0) B dX4_lampOn_38 rfl rfl ?_
        obtain ⟨a21, ea22, h⟩ := drf_e h
        obtain ⟨hg23, h⟩ := gd_e h
        refine g4 (k := 4) B (vr (sr s19 a21 4)) ea22 (fun _ => isK_e hg23) rfl q343 rfl (fun _ => rfl) dX4_lampOn_39 ?_
        refine r_bipush (v := 6) B dX4_lampOn_42 (by decide) ?_
        obtain ⟨hg24, h⟩ := gd_e h
        obtain ⟨r25, s26, hc27, h⟩ := bnd_e h
        refine r_callVNv (As := [vi (6 : Int32)]) (rest := [vi r18]) B rfl (isR_e hg24) EX.same (c_X0_term B.ge hS hc27) (cw_X0_term rfl rfl) (fun z => RV.of 0 (by rw [((hS _).1 z).1 0 (by decide)]; rfl) rfl rfl qs10) (lw_n q1265 rfl) q578 rfl dX4_lampOn_44 ?_
        refine r_ic_ne (tgt := 80) B dX4_lampOn_47 (by decide) (fun cn28 => ?_) (fun cn28 => ?_)
        · have h := of cn28 h
          refine r_iinc (j := 3) (v := (x3 + (1))) (L' := [(0, vr x0), (1, vi x1), (2, vi x2), (3, vi (x3 + (1)))]) B dX4_lampOn_80 rfl rfl (by decide) rfl rfl rfl ?_
          refine r_goto (tgt := 2) B dX4_lampOn_83 (by decide) ?_
          exact ih s26 x0 x1 x2 (x3 + (1)) h
        · have h := ot cn28 h
          refine r_aload_n (j := 0) B dX4_lampOn_50 rfl rfl ?_
          obtain ⟨a29, ea30, h⟩ := drf_e h
          obtain ⟨hg31, h⟩ := gd_e h
          refine g4 (k := 4) B (vr (sr s26 a29 4)) ea30 (fun _ => isK_e hg31) rfl q343 rfl (fun _ => rfl) dX4_lampOn_51 ?_
          refine r_bipush (v := 7) B dX4_lampOn_54 (by decide) ?_
          obtain ⟨hg32, h⟩ := gd_e h
          obtain ⟨r33, s34, hc35, h⟩ := bnd_e h
          refine r_callVNv (As := [vi (7 : Int32)]) (rest := []) B rfl (isR_e hg32) EX.same (c_X0_term B.ge hS hc35) (cw_X0_term rfl rfl) (fun z => RV.of 0 (by rw [((hS _).1 z).1 0 (by decide)]; rfl) rfl rfl qs10) (lw_n q1265 rfl) q578 rfl dX4_lampOn_56 ?_
          refine r_aload_n (j := 0) B dX4_lampOn_59 rfl rfl ?_
          obtain ⟨a36, ea37, h⟩ := drf_e h
          obtain ⟨hg38, h⟩ := gd_e h
          refine g4 (k := 4) B (vr (sr s34 a36 4)) ea37 (fun _ => isK_e hg38) rfl q343 rfl (fun _ => rfl) dX4_lampOn_60 ?_
          refine r_iconst (v := 2) B dX4_lampOn_63 (by decide) ?_
          obtain ⟨hg39, h⟩ := gd_e h
          obtain ⟨r40, s41, hc42, h⟩ := bnd_e h
          refine r_callVNv (As := [vi (2 : Int32)]) (rest := [vi r33]) B rfl (isR_e hg39) EX.same (c_X0_term B.ge hS hc42) (cw_X0_term rfl rfl) (fun z => RV.of 0 (by rw [((hS _).1 z).1 0 (by decide)]; rfl) rfl rfl qs10) (lw_n q1265 rfl) q578 rfl dX4_lampOn_64 ?_
          refine r_ic_gt (tgt := 80) B dX4_lampOn_67 (by decide) (fun cn43 => ?_) (fun cn43 => ?_)
          · have h := ot cn43 h
            refine r_iinc (j := 3) (v := (x3 + (1))) (L' := [(0, vr x0), (1, vi x1), (2, vi x2), (3, vi (x3 + (1)))]) B dX4_lampOn_80 rfl rfl (by decide) rfl rfl rfl ?_
            refine r_goto (tgt := 2) B dX4_lampOn_83 (by decide) ?_
            exact ih s41 x0 x1 x2 (x3 + (1)) h
          · have h := of cn43 h
            refine r_aload_n (j := 0) B dX4_lampOn_70 rfl rfl ?_
            obtain ⟨a44, ea45, h⟩ := drf_e h
            obtain ⟨hg46, h⟩ := gd_e h
            refine g4 (k := 4) B (vr (sr s41 a44 4)) ea45 (fun _ => isK_e hg46) rfl q343 rfl (fun _ => rfl) dX4_lampOn_71 ?_
            refine r_bipush (v := 6) B dX4_lampOn_74 (by decide) ?_
            obtain ⟨hg47, h⟩ := gd_e h
            obtain ⟨r48, s49, hc50, h⟩ := bnd_e h
            refine r_callVNv (As := [vi (6 : Int32)]) (rest := []) B rfl (isR_e hg47) EX.same (c_X0_term B.ge hS hc50) (cw_X0_term rfl rfl) (fun z => RV.of 0 (by rw [((hS _).1 z).1 0 (by decide)]; rfl) rfl rfl qs10) (lw_n q1265 rfl) q578 rfl dX4_lampOn_76 ?_
            exact r_iret B dX4_lampOn_79 h
set_option maxHeartbeats 4000000 in
noncomputable def F_X4_lampOn (s : St) (this : Nat) (p0 : Int32) (p1 : Int32) : Option (Int32 × St) := F_X4_lampOn_2 FU s (some this) p0 p1 (0 : Int32)
set_option maxHeartbeats 4000000 in
theorem c_X4_lampOn {l : Launch} {E : EV} (hE : GE E) (hS : ∀ σ, eSk E σ ↔ SkC σ) {s s' : St} {r : Int32} {this : Nat} {p0 : Int32} {p1 : Int32} (h : F_X4_lampOn  s this p0 p1 = some (r, s')) : CT l E yX4_lampOn cX4_lampOn 4 (some .int) 2 43 [vr (some this), vi p0, vi p1] s (some (vi r)) s' := by
  refine CT.start hE (by decide) rfl [(0, vr (some this)), (1, vi p0), (2, vi p1)] rfl (fun X hX B => ?_)
  skip
  have B : FX X E cX4_lampOn 4 (some .int) "RoseThrow$Flight" "lampOn" (sn s) (ss s) 2 43 := B
  unfold F_X4_lampOn at h
  refine r_iconst (v := 0) B dX4_lampOn_0 (by decide) ?_
  refine r_istore_n (L' := [(0, vr (some this)), (1, vi p0), (2, vi p1), (3, vi (0 : Int32))]) B dX4_lampOn_1 rfl (by decide) rfl rfl rfl ?_
  exact w_X4_lampOn_2 B hS FU s (some this) p0 p1 (0 : Int32) h
set_option maxHeartbeats 4000000 in
theorem cw_X4_lampOn {X : CX} {fr lo : Nat} (h1 : Nat.ble (2 + 1) fr = true) (h2 : Nat.ble (23 + 43) lo = true) : CW X fr lo yX4_lampOn cX4_lampOn 4 (some .int) 2 43 2 := ⟨q1264, q135, ⟨by decide +kernel, by decide +kernel, by decide +kernel⟩, Nat.le_of_ble_eq_true h1, Nat.le_of_ble_eq_true h2⟩

set_option maxHeartbeats 4000000 in
noncomputable def F_X4_comes (s : St) (this : Nat) (p0 : Int32) (p1 : Int32) : Option (Unit × St) := gd (isK s this 4) <| gd (isK s this 4) <| drf (sr s this 0) fun a3 => gd (isK s a3 100) <| gd (inb (si s this 2) (sk s a3).2) <| nam (setI s a3 (si s this 2).toNatClampNeg p0) fun s7 => gd (isK s7 this 4) <| gd (isK s7 this 4) <| drf (sr s7 this 1) fun a11 => gd (isK s7 a11 100) <| gd (inb (si s7 this 2) (sk s7 a11).2) <| nam (setI s7 a11 (si s7 this 2).toNatClampNeg p1) fun s15 => gd (isK s15 this 4) <| gd (isK s15 this 4) <| nam (setI s15 this 2 ((si s15 this 2) + (1 : Int32))) fun s19 => gd (isK s19 this 4) <| gd (isK s19 this 4) <| nam (setI s19 this 3 ((si s19 this 3) + p1)) fun s23 => some ((), s23)
set_option maxHeartbeats 4000000 in
theorem c_X4_comes {l : Launch} {E : EV} (hE : GE E) (hS : ∀ σ, eSk E σ ↔ SkC σ) {s s' : St} {r : Unit} {this : Nat} {p0 : Int32} {p1 : Int32} (h : F_X4_comes  s this p0 p1 = some (r, s')) : CT l E yX4_comes cX4_comes 3 none 0 0 [vr (some this), vi p0, vi p1] s none s' := by
  refine CT.start hE (by decide) rfl [(0, vr (some this)), (1, vi p0), (2, vi p1)] rfl (fun X hX B => ?_)
  skip
  have B : FX X E cX4_comes 3 none "RoseThrow$Flight" "comes" (sn s) (ss s) 0 0 := B
  unfold F_X4_comes at h
  refine r_aload_n (j := 0) B dX4_comes_0 rfl rfl ?_
  obtain ⟨hg1, h⟩ := gd_e h
  refine g4 (k := 0) B (vr (sr s this 0)) rfl (fun _ => isK_e hg1) rfl q335 rfl (fun _ => rfl) dX4_comes_1 ?_
  refine r_aload_n (j := 0) B dX4_comes_4 rfl rfl ?_
  obtain ⟨hg2, h⟩ := gd_e h
  refine g4 (k := 2) B (vi (si s this 2)) rfl (fun _ => isK_e hg2) rfl q339 rfl (fun _ => rfl) dX4_comes_5 ?_
  refine r_iload_n (j := 1) B dX4_comes_8 rfl rfl ?_
  obtain ⟨a3, ea4, h⟩ := drf_e h
  obtain ⟨hg5, h⟩ := gd_e h
  obtain ⟨hg6, h⟩ := gd_e h
  obtain ⟨s7, e8, h⟩ := nam_e h
  refine r_iast B e8 ea4 (fun _ => isK_a hg5) hg6 dX4_comes_9 ?_
  refine r_aload_n (j := 0) B dX4_comes_10 rfl rfl ?_
  obtain ⟨hg9, h⟩ := gd_e h
  refine g4 (k := 1) B (vr (sr s7 this 1)) rfl (fun _ => isK_e hg9) rfl q337 rfl (fun _ => rfl) dX4_comes_11 ?_
  refine r_aload_n (j := 0) B dX4_comes_14 rfl rfl ?_
  obtain ⟨hg10, h⟩ := gd_e h
  refine g4 (k := 2) B (vi (si s7 this 2)) rfl (fun _ => isK_e hg10) rfl q339 rfl (fun _ => rfl) dX4_comes_15 ?_
  refine r_iload_n (j := 2) B dX4_comes_18 rfl rfl ?_
  obtain ⟨a11, ea12, h⟩ := drf_e h
  obtain ⟨hg13, h⟩ := gd_e h
  obtain ⟨hg14, h⟩ := gd_e h
  obtain ⟨s15, e16, h⟩ := nam_e h
  refine r_iast B e16 ea12 (fun _ => isK_a hg13) hg14 dX4_comes_19 ?_
  refine r_aload_n (j := 0) B dX4_comes_20 rfl rfl ?_
  refine r_dup B dX4_comes_21 rfl ?_
  obtain ⟨hg17, h⟩ := gd_e h
  refine g4 (k := 2) B (vi (si s15 this 2)) rfl (fun _ => isK_e hg17) rfl q339 rfl (fun _ => rfl) dX4_comes_22 ?_
  refine r_iconst (v := 1) B dX4_comes_25 (by decide) ?_
  refine r_iadd B dX4_comes_26 ?_
  obtain ⟨hg18, h⟩ := gd_e h
  obtain ⟨s19, e20, h⟩ := nam_e h
  refine pI4 (k := 2) B e20 rfl (fun _ => isK_e hg18) rfl q339 rfl rfl (fun _ _ _ => rfl) rfl dX4_comes_27 ?_
  refine r_aload_n (j := 0) B dX4_comes_30 rfl rfl ?_
  refine r_dup B dX4_comes_31 rfl ?_
  obtain ⟨hg21, h⟩ := gd_e h
  refine g4 (k := 3) B (vi (si s19 this 3)) rfl (fun _ => isK_e hg21) rfl q341 rfl (fun _ => rfl) dX4_comes_32 ?_
  refine r_iload_n (j := 2) B dX4_comes_35 rfl rfl ?_
  refine r_iadd B dX4_comes_36 ?_
  obtain ⟨hg22, h⟩ := gd_e h
  obtain ⟨s23, e24, h⟩ := nam_e h
  refine pI4 (k := 3) B e24 rfl (fun _ => isK_e hg22) rfl q341 rfl rfl (fun _ _ _ => rfl) rfl dX4_comes_37 ?_
  exact r_vret B dX4_comes_40 h
set_option maxHeartbeats 4000000 in
theorem cw_X4_comes {X : CX} {fr lo : Nat} (h1 : Nat.ble (0 + 1) fr = true) (h2 : Nat.ble (22 + 0) lo = true) : CW X fr lo yX4_comes cX4_comes 3 none 0 0 2 := ⟨q1272, q135, ⟨by decide +kernel, by decide +kernel, by decide +kernel⟩, Nat.le_of_ble_eq_true h1, Nat.le_of_ble_eq_true h2⟩

