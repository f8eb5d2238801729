set_option maxRecDepth 100000
set_option maxHeartbeats 4000000 in
noncomputable def F_X5_weightNear_4 : Nat → St → Int32 → Int32 → Int32 → Option (Int32 × St)
  | 0 => fun _ _ _ _ => none
  | n + 1 => fun s x1 x2 x3 => if (36 : Int32) ≤ x3 then (some (x2, s)) else (bnd (F_X5_farOf s x3 x1) fun r2 s3 => if (2 : Int32) ≤ r2 then (F_X5_weightNear_4  n s3 x1 (x2 + (0 : Int32)) (x3 + (1))) else (gd (inb x3 37) <| nam (x2 + (si s3 22 x3.toNatClampNeg)) fun y7 => F_X5_weightNear_4  n s3 x1 y7 (x3 + (1))))
set_option maxHeartbeats 4000000 in
theorem w_X5_weightNear_4 {X : CX} {E : EV} {a0 s' : St} {r : Int32} (B : FX X E cX5_weightNear 4 (some .int) "RoseThrowModel" "weightNear" (sn a0) (ss a0) 2 41) (hS : ∀ σ, eSk E σ → SkM σ) : ∀ (n : Nat) (s : St) (x1 : Int32) (x2 : Int32) (x3 : Int32), F_X5_weightNear_4   n s x1 x2 x3 = some (r, s') → J X E (sn a0) (ss a0) 4 (QR X E a0 (some (vi r)) s') s 4 [(0, vr (some 0)), (1, vi x1), (2, vi x2), (3, vi x3)] [] := by
  intro n
  induction n with
  | zero => intro s x1 x2 x3 h; exact absurd (show (none : Option (Int32 × St)) = _ from h) (by simp)
  | succ n ih =>
    intro s x1 x2 x3 h
    rw [F_X5_weightNear_4] at h
    refine r_iload_n (j := 3) B dX5_weightNear_4 rfl rfl ?_
    refine r_bipush (v := 36) B dX5_weightNear_5 (by decide) ?_
    refine r_ic_ge (tgt := 38) B dX5_weightNear_7 (by decide) (fun cn1 => ?_) (fun cn1 => ?_)
    · have h := ot cn1 h
      refine r_iload_n (j := 2) B dX5_weightNear_38 rfl rfl ?_
      exact r_iret B dX5_weightNear_39 h
    · have h := of cn1 h
      refine r_iload_n (j := 2) B dX5_weightNear_10 rfl rfl ?_
      refine r_iload_n (j := 3) B dX5_weightNear_11 rfl rfl ?_
      refine r_iload_n (j := 1) B dX5_weightNear_12 rfl rfl ?_
      obtain ⟨r2, s3, hc4, h⟩ := bnd_e h
      refine r_callSv (As := [vi x3, vi x1]) (rest := [vi x2]) B rfl EX.same (c_X5_farOf B.ge hS hc4) (cw_X5_farOf rfl rfl) q2044 q2045 rfl dX5_weightNear_13 ?_
      refine r_iconst (v := 2) B dX5_weightNear_16 (by decide) ?_
      refine r_ic_ge (tgt := 29) B dX5_weightNear_17 (by decide) (fun cn5 => ?_) (fun cn5 => ?_)
      · have h := ot cn5 h
        refine r_iconst (v := 0) B dX5_weightNear_29 (by decide) ?_
        refine r_iadd B dX5_weightNear_30 ?_
        refine r_istore_n (L' := [(0, vr (some 0)), (1, vi x1), (2, vi (x2 + (0 : Int32))), (3, vi x3)]) B dX5_weightNear_31 rfl (by decide) rfl rfl rfl ?_
        refine r_iinc (j := 3) (v := (x3 + (1))) (L' := [(0, vr (some 0)), (1, vi x1), (2, vi (x2 + (0 : Int32))), (3, vi (x3 + (1)))]) B dX5_weightNear_32 rfl rfl (by decide) rfl rfl rfl ?_
        refine r_goto (tgt := 4) B dX5_weightNear_35 (by decide) ?_
        exact ih s3 x1 (x2 + (0 : Int32)) (x3 + (1)) h
      · have h := of cn5 h
        refine r_aload_n (j := 0) B dX5_weightNear_20 rfl rfl ?_
        refine g5 (k := 42) B (vr (some 22)) rfl (fun z => by rw [(hS _ z).1 0 (by decide)]; rfl) rfl q1559 rfl (fun z => by rw [(hS _ z).2 _ (List.mem_of_getElem? (i := 21) rfl)]; rfl) dX5_weightNear_21 ?_
        refine r_iload_n (j := 3) B dX5_weightNear_24 rfl rfl ?_
        obtain ⟨hg6, h⟩ := gd_e h
        refine r_iald B rfl (fun z => (hS _ z).1 22 (by decide)) hg6 dX5_weightNear_25 ?_
        refine r_goto (tgt := 30) B dX5_weightNear_26 (by decide) ?_
        refine r_iadd B dX5_weightNear_30 ?_
        obtain ⟨y7, e8, h⟩ := nam_e h
        refine r_topi e8 ?_
        refine r_istore_n (L' := [(0, vr (some 0)), (1, vi x1), (2, vi y7), (3, vi x3)]) B dX5_weightNear_31 rfl (by decide) rfl rfl rfl ?_
        refine r_iinc (j := 3) (v := (x3 + (1))) (L' := [(0, vr (some 0)), (1, vi x1), (2, vi y7), (3, vi (x3 + (1)))]) B dX5_weightNear_32 rfl rfl (by decide) rfl rfl rfl ?_
        refine r_goto (tgt := 4) B dX5_weightNear_35 (by decide) ?_
        exact ih s3 x1 y7 (x3 + (1)) h
set_option maxHeartbeats 4000000 in
noncomputable def F_X5_weightNear (s : St) (p0 : Int32) : Option (Int32 × St) := F_X5_weightNear_4 FU s p0 (0 : Int32) (0 : Int32)
set_option maxHeartbeats 4000000 in
theorem c_X5_weightNear {l : Launch} {E : EV} (hE : GE E) (hS : ∀ σ, eSk E σ → SkM σ) {s s' : St} {r : Int32} {p0 : Int32} (h : F_X5_weightNear  s p0 = some (r, s')) : CT l E yX5_weightNear cX5_weightNear 4 (some .int) 2 41 [vr (some 0), vi p0] s (some (vi r)) s' := by
  refine CT.start hE (by decide) rfl [(0, vr (some 0)), (1, vi p0)] rfl (fun X hX B => ?_)
  skip
  have B : FX X E cX5_weightNear 4 (some .int) "RoseThrowModel" "weightNear" (sn s) (ss s) 2 41 := B
  unfold F_X5_weightNear at h
  refine r_iconst (v := 0) B dX5_weightNear_0 (by decide) ?_
  refine r_istore_n (L' := [(0, vr (some 0)), (1, vi p0), (2, vi (0 : Int32))]) B dX5_weightNear_1 rfl (by decide) rfl rfl rfl ?_
  refine r_iconst (v := 0) B dX5_weightNear_2 (by decide) ?_
  refine r_istore_n (L' := [(0, vr (some 0)), (1, vi p0), (2, vi (0 : Int32)), (3, vi (0 : Int32))]) B dX5_weightNear_3 rfl (by decide) rfl rfl rfl ?_
  exact w_X5_weightNear_4 B hS FU s p0 (0 : Int32) (0 : Int32) h
set_option maxHeartbeats 4000000 in
theorem cw_X5_weightNear {X : CX} {fr lo : Nat} (h1 : Nat.ble (2 + 1) fr = true) (h2 : Nat.ble (23 + 41) lo = true) : CW X fr lo yX5_weightNear cX5_weightNear 4 (some .int) 2 41 1 := ⟨q2117, q136, ⟨by decide +kernel, by decide +kernel, by decide +kernel⟩, Nat.le_of_ble_eq_true h1, Nat.le_of_ble_eq_true h2⟩

set_option maxHeartbeats 4000000 in
noncomputable def F_X5_safest_125 (s : St) (z0 : Int64) : Option (Int32 × St) := some (((z0).toInt32), s)
set_option maxHeartbeats 4000000 in
theorem w_X5_safest_125 {X : CX} {E : EV} {a0 s' : St} {r : Int32} (B : FX X E cX5_safest 6 (some .int) "RoseThrowModel" "safest" (sn a0) (ss a0) 8 191) (hS : ∀ σ, eSk E σ → SkM σ) (s : St) (z0 : Int64) (h : F_X5_safest_125   s z0 = some (r, s')) : J X E (sn a0) (ss a0) 6 (QR X E a0 (some (vi r)) s') s 125 [] [vl z0] := by
  unfold F_X5_safest_125 at h
  refine r_l2i B dX5_safest_125 ?_
  exact r_iret B dX5_safest_126 h
set_option maxHeartbeats 4000000 in
noncomputable def F_X5_safest_41 : Nat → St → Int32 → Int32 → Int32 → Int32 → Int32 → Option (Int32 × St)
  | 0 => fun _ _ _ _ _ _ => none
  | n + 1 => fun s x1 x2 x3 x4 x5 => if (36 : Int32) ≤ x5 then (if x3 = (-1 : Int32) then (some (x3, s)) else (if x2 = 0 then (some (x3, s)) else (bnd (F_X5_shorten s ((x4).toInt64) (((si s 0 45)).toInt64)) fun _ s5 => if x2 = (1 : Int32) then (F_X5_safest_125 s5 (sl s5 0 46)) else (F_X5_safest_125 s5 (sl s5 0 47))))) else (bnd (F_X5_canStand s x1 x5) fun r8 s9 => if r8 = 0 then (F_X5_safest_41  n s9 x1 x2 x3 x4 (x5 + (1))) else (bnd (F_X5_weightNear s9 x5) fun r12 s13 => if x4 ≤ r12 then (F_X5_safest_41  n s13 x1 x2 x3 x4 (x5 + (1))) else (bnd (F_X5_weightNear s13 x5) fun r16 s17 => F_X5_safest_41  n s17 x1 x2 x5 r16 (x5 + (1)))))
set_option maxHeartbeats 4000000 in
theorem w_X5_safest_41 {X : CX} {E : EV} {a0 s' : St} {r : Int32} (B : FX X E cX5_safest 6 (some .int) "RoseThrowModel" "safest" (sn a0) (ss a0) 8 191) (hS : ∀ σ, eSk E σ → SkM σ) : ∀ (n : Nat) (s : St) (x1 : Int32) (x2 : Int32) (x3 : Int32) (x4 : Int32) (x5 : Int32), F_X5_safest_41   n s x1 x2 x3 x4 x5 = some (r, s') → J X E (sn a0) (ss a0) 6 (QR X E a0 (some (vi r)) s') s 41 [(0, vr (some 0)), (1, vi x1), (2, vi x2), (3, vi x3), (4, vi x4), (5, vi x5)] [] := by
  intro n
  induction n with
  | zero => intro s x1 x2 x3 x4 x5 h; exact absurd (show (none : Option (Int32 × St)) = _ from h) (by simp)
  | succ n ih =>
    intro s x1 x2 x3 x4 x5 h
    rw [F_X5_safest_41] at h
    refine r_iload (j := 5) B dX5_safest_41 rfl ?_
    refine r_bipush (v := 36) B dX5_safest_43 (by decide) ?_
    refine r_ic_ge (tgt := 86) B dX5_safest_45 (by decide) (fun cn1 => ?_) (fun cn1 => ?_)
    · have h := ot cn1 h
      refine r_iload_n (j := 3) B dX5_safest_86 rfl rfl ?_
      refine r_iconst (v := -1) B dX5_safest_87 (by decide) ?_
      refine r_ic_eq (tgt := 95) B dX5_safest_88 (by decide) (fun cn2 => ?_) (fun cn2 => ?_)
      · have h := ot cn2 h
        refine r_iload_n (j := 3) B dX5_safest_95 rfl rfl ?_
        exact r_iret B dX5_safest_96 h
      · have h := of cn2 h
        refine r_iload_n (j := 2) B dX5_safest_91 rfl rfl ?_
        refine r_if_ne (tgt := 97) B dX5_safest_92 (by decide) (fun cn3 => ?_) (fun cn3 => ?_)
        · have h := of cn3 h
          refine r_aload_n (j := 0) B dX5_safest_97 rfl rfl ?_
          refine r_iload (j := 4) B dX5_safest_98 rfl ?_
          refine r_i2l B dX5_safest_100 ?_
          refine r_aload_n (j := 0) B dX5_safest_101 rfl rfl ?_
          refine g5 (k := 45) B (vi (si s 0 45)) rfl (fun z => by rw [(hS _ z).1 0 (by decide)]; rfl) rfl q1562 rfl (fun _ => rfl) dX5_safest_102 ?_
          refine r_i2l B dX5_safest_105 ?_
          obtain ⟨r4, s5, hc6, h⟩ := bnd_e h
          refine r_callV0 (As := [vl ((x4).toInt64), vl (((si s 0 45)).toInt64)]) (rest := []) B rfl rfl EX.same (c_X5_shorten B.ge hS hc6) (cw_X5_shorten rfl rfl) (fun z => RV.of 5 ((fun z => by rw [(hS _ z).1 0 (by decide)]; rfl) z) rfl rfl qs96) q2024 q2026 rfl dX5_safest_106 ?_
          refine r_iload_n (j := 2) B dX5_safest_109 rfl rfl ?_
          refine r_iconst (v := 1) B dX5_safest_110 (by decide) ?_
          refine r_ic_ne (tgt := 121) B dX5_safest_111 (by decide) (fun cn7 => ?_) (fun cn7 => ?_)
          · have h := of cn7 h
            refine r_aload_n (j := 0) B dX5_safest_121 rfl rfl ?_
            refine g5 (k := 47) B (vl (sl s5 0 47)) rfl (fun z => by rw [(hS _ z).1 0 (by decide)]; rfl) rfl q1564 rfl (fun _ => rfl) dX5_safest_122 ?_
            refine r_pick [] (L' := []) rfl ?_
            exact w_X5_safest_125 B hS s5 (sl s5 0 47) h
          · have h := ot cn7 h
            refine r_aload_n (j := 0) B dX5_safest_114 rfl rfl ?_
            refine g5 (k := 46) B (vl (sl s5 0 46)) rfl (fun z => by rw [(hS _ z).1 0 (by decide)]; rfl) rfl q1563 rfl (fun _ => rfl) dX5_safest_115 ?_
            refine r_goto (tgt := 125) B dX5_safest_118 (by decide) ?_
            refine r_pick [] (L' := []) rfl ?_
            exact w_X5_safest_125 B hS s5 (sl s5 0 46) h
        · have h := ot cn3 h
          refine r_iload_n (j := 3) B dX5_safest_95 rfl rfl ?_
          exact r_iret B dX5_safest_96 h
    · have h := of cn1 h
      refine r_aload_n (j := 0) B dX5_safest_48 rfl rfl ?_
      refine r_iload_n (j := 1) B dX5_safest_49 rfl rfl ?_
      refine r_iload (j := 5) B dX5_safest_50 rfl ?_
      obtain ⟨r8, s9, hc10, h⟩ := bnd_e h
      refine r_callVv (As := [vi x1, vi x5]) (rest := []) B rfl rfl EX.same (c_X5_canStand B.ge hS hc10) (cw_X5_canStand rfl rfl) (fun z => RV.of 5 ((fun z => by rw [(hS _ z).1 0 (by decide)]; rfl) z) rfl rfl qs101) q2058 q2060 rfl dX5_safest_52 ?_
      refine r_if_eq (tgt := 80) B dX5_safest_55 (by decide) (fun cn11 => ?_) (fun cn11 => ?_)
      · have h := ot cn11 h
        refine r_iinc (j := 5) (v := (x5 + (1))) (L' := [(0, vr (some 0)), (1, vi x1), (2, vi x2), (3, vi x3), (4, vi x4), (5, vi (x5 + (1)))]) B dX5_safest_80 rfl rfl (by decide) rfl rfl rfl ?_
        refine r_goto (tgt := 41) B dX5_safest_83 (by decide) ?_
        exact ih s9 x1 x2 x3 x4 (x5 + (1)) h
      · have h := of cn11 h
        refine r_aload_n (j := 0) B dX5_safest_58 rfl rfl ?_
        refine r_iload (j := 5) B dX5_safest_59 rfl ?_
        obtain ⟨r12, s13, hc14, h⟩ := bnd_e h
        refine r_callVv (As := [vi x5]) (rest := []) B rfl rfl EX.same (c_X5_weightNear B.ge hS hc14) (cw_X5_weightNear rfl rfl) (fun z => RV.of 5 ((fun z => by rw [(hS _ z).1 0 (by decide)]; rfl) z) rfl rfl qs110) q2114 q2116 rfl dX5_safest_61 ?_
        refine r_iload (j := 4) B dX5_safest_64 rfl ?_
        refine r_ic_ge (tgt := 80) B dX5_safest_66 (by decide) (fun cn15 => ?_) (fun cn15 => ?_)
        · have h := ot cn15 h
          refine r_iinc (j := 5) (v := (x5 + (1))) (L' := [(0, vr (some 0)), (1, vi x1), (2, vi x2), (3, vi x3), (4, vi x4), (5, vi (x5 + (1)))]) B dX5_safest_80 rfl rfl (by decide) rfl rfl rfl ?_
          refine r_goto (tgt := 41) B dX5_safest_83 (by decide) ?_
          exact ih s13 x1 x2 x3 x4 (x5 + (1)) h
        · have h := of cn15 h
          refine r_aload_n (j := 0) B dX5_safest_69 rfl rfl ?_
          refine r_iload (j := 5) B dX5_safest_70 rfl ?_
          obtain ⟨r16, s17, hc18, h⟩ := bnd_e h
          refine r_callVv (As := [vi x5]) (rest := []) B rfl rfl EX.same (c_X5_weightNear B.ge hS hc18) (cw_X5_weightNear rfl rfl) (fun z => RV.of 5 ((fun z => by rw [(hS _ z).1 0 (by decide)]; rfl) z) rfl rfl qs110) q2114 q2116 rfl dX5_safest_72 ?_
          refine r_istore (L' := [(0, vr (some 0)), (1, vi x1), (2, vi x2), (3, vi x3), (4, vi r16), (5, vi x5)]) B dX5_safest_75 (by decide) rfl rfl rfl ?_
          refine r_iload (j := 5) B dX5_safest_77 rfl ?_
          refine r_istore_n (L' := [(0, vr (some 0)), (1, vi x1), (2, vi x2), (3, vi x5), (4, vi r16), (5, vi x5)]) B dX5_safest_79 rfl (by decide) rfl rfl rfl ?_
          refine r_iinc (j := 5) (v := (x5 + (1))) (L' := [(0, vr (some 0)), (1, vi x1), (2, vi x2), (3, vi x5), (4, vi r16), (5, vi (x5 + (1)))]) B dX5_safest_80 rfl rfl (by decide) rfl rfl rfl ?_
          refine r_goto (tgt := 41) B dX5_safest_83 (by decide) ?_
          exact ih s17 x1 x2 x5 r16 (x5 + (1)) h
set_option maxHeartbeats 4000000 in
noncomputable def F_X5_safest (s : St) (p0 : Int32) (p1 : Int32) : Option (Int32 × St) := nam (setI s 0 0 (0 : Int32)) fun s1 => bnd (F_X5_isCatcher s1 p0) fun r3 s4 => if r3 = 0 then (some ((-1 : Int32), s4)) else (bnd (F_X5_in s4 ((p1).toInt64) (0 : Int64) (2 : Int64)) fun r7 s8 => if r7 = 0 then (some ((-1 : Int32), s8)) else (bnd (F_X5_aimNow s8) fun _ s12 => F_X5_safest_41 FU s12 p0 p1 (-1 : Int32) (1000 : Int32) (0 : Int32)))
set_option maxHeartbeats 4000000 in
theorem c_X5_safest {l : Launch} {E : EV} (hE : GE E) (hS : ∀ σ, eSk E σ → SkM σ) {s s' : St} {r : Int32} {p0 : Int32} {p1 : Int32} (h : F_X5_safest  s p0 p1 = some (r, s')) : CT l E yX5_safest cX5_safest 6 (some .int) 8 191 [vr (some 0), vi p0, vi p1] s (some (vi r)) s' := by
  refine CT.start hE (by decide) rfl [(0, vr (some 0)), (1, vi p0), (2, vi p1)] rfl (fun X hX B => ?_)
  skip
  have B : FX X E cX5_safest 6 (some .int) "RoseThrowModel" "safest" (sn s) (ss s) 8 191 := B
  unfold F_X5_safest at h
  refine r_aload_n (j := 0) B dX5_safest_0 rfl rfl ?_
  refine r_iconst (v := 0) B dX5_safest_1 (by decide) ?_
  obtain ⟨s1, e2, h⟩ := nam_e h
  refine pI5 (k := 0) B e2 rfl (fun z => by rw [(hS _ z).1 0 (by decide)]; rfl) rfl q1517 rfl rfl (fun _ _ _ => rfl) rfl dX5_safest_2 ?_
  refine r_aload_n (j := 0) B dX5_safest_5 rfl rfl ?_
  refine r_iload_n (j := 1) B dX5_safest_6 rfl rfl ?_
  obtain ⟨r3, s4, hc5, h⟩ := bnd_e h
  refine r_callVv (As := [vi p0]) (rest := []) B rfl rfl EX.same (c_X5_isCatcher B.ge hS hc5) (cw_X5_isCatcher rfl rfl) (fun z => RV.of 5 ((fun z => by rw [(hS _ z).1 0 (by decide)]; rfl) z) rfl rfl qs60) q1799 q1801 rfl dX5_safest_7 ?_
  refine r_if_eq (tgt := 25) B dX5_safest_10 (by decide) (fun cn6 => ?_) (fun cn6 => ?_)
  · have h := ot cn6 h
    refine r_iconst (v := -1) B dX5_safest_25 (by decide) ?_
    exact r_iret B dX5_safest_26 h
  · have h := of cn6 h
    refine r_iload_n (j := 2) B dX5_safest_13 rfl rfl ?_
    refine r_i2l B dX5_safest_14 ?_
    refine r_lconst (v := 0) B dX5_safest_15 (by decide) ?_
    refine r_ldc2 B dX5_safest_16 q1835 ?_
    obtain ⟨r7, s8, hc9, h⟩ := bnd_e h
    refine r_callSv (As := [vl ((p1).toInt64), vl (0 : Int64), vl (2 : Int64)]) (rest := []) B rfl EX.same (c_X5_in B.ge hS hc9) (cw_X5_in rfl rfl) q1740 q1741 rfl dX5_safest_19 ?_
    refine r_if_ne (tgt := 27) B dX5_safest_22 (by decide) (fun cn10 => ?_) (fun cn10 => ?_)
    · have h := of cn10 h
      refine r_aload_n (j := 0) B dX5_safest_27 rfl rfl ?_
      obtain ⟨r11, s12, hc13, h⟩ := bnd_e h
      refine r_callV0 (As := []) (rest := []) B rfl rfl EX.same (c_X5_aimNow B.ge hS hc13) (cw_X5_aimNow rfl rfl) (fun z => RV.of 5 ((fun z => by rw [(hS _ z).1 0 (by decide)]; rfl) z) rfl rfl qs91) q2004 q2006 rfl dX5_safest_28 ?_
      refine r_iconst (v := -1) B dX5_safest_31 (by decide) ?_
      refine r_istore_n (L' := [(0, vr (some 0)), (1, vi p0), (2, vi p1), (3, vi (-1 : Int32))]) B dX5_safest_32 rfl (by decide) rfl rfl rfl ?_
      refine r_sipush (v := 1000) B dX5_safest_33 (by decide) ?_
      refine r_istore (L' := [(0, vr (some 0)), (1, vi p0), (2, vi p1), (3, vi (-1 : Int32)), (4, vi (1000 : Int32))]) B dX5_safest_36 (by decide) rfl rfl rfl ?_
      refine r_iconst (v := 0) B dX5_safest_38 (by decide) ?_
      refine r_istore (L' := [(0, vr (some 0)), (1, vi p0), (2, vi p1), (3, vi (-1 : Int32)), (4, vi (1000 : Int32)), (5, vi (0 : Int32))]) B dX5_safest_39 (by decide) rfl rfl rfl ?_
      exact w_X5_safest_41 B hS FU s12 p0 p1 (-1 : Int32) (1000 : Int32) (0 : Int32) h
    · have h := ot cn10 h
      refine r_iconst (v := -1) B dX5_safest_25 (by decide) ?_
      exact r_iret B dX5_safest_26 h
set_option maxHeartbeats 4000000 in
theorem cw_X5_safest {X : CX} {fr lo : Nat} (h1 : Nat.ble (8 + 1) fr = true) (h2 : Nat.ble (25 + 191) lo = true) : CW X fr lo yX5_safest cX5_safest 6 (some .int) 8 191 2 := ⟨q2113, q136, ⟨by decide +kernel, by decide +kernel, by decide +kernel⟩, Nat.le_of_ble_eq_true h1, Nat.le_of_ble_eq_true h2⟩

set_option maxHeartbeats 4000000 in
noncomputable def F_X5_crowd_68 (k34 : St → Int32 → Int32 → Int32 → Int32 → Option (Int64 × St)) (s : St) (x1 : Int32) (x3 : Int32) (x4 : Int32) (z0 : Int32) : Option (Int64 × St) := gd (inb (6 : Int32) 7) <| if x3 ≤ (si s 26 (6 : Int32).toNatClampNeg) then (k34 s x1 z0 x3 (x4 + (1))) else (gd (inb (6 : Int32) 7) <| nam (si s 26 (6 : Int32).toNatClampNeg) fun y4 => k34 s x1 z0 y4 (x4 + (1)))
set_option maxHeartbeats 4000000 in
theorem w_X5_crowd_68 {X : CX} {E : EV} {a0 s' : St} {r : Int64} (B : FX X E cX5_crowd 5 (some .long) "RoseThrowModel" "crowd" (sn a0) (ss a0) 8 191) (hS : ∀ σ, eSk E σ → SkM σ) (k34 : St → Int32 → Int32 → Int32 → Int32 → Option (Int64 × St)) (hk34 : ∀ (s : St) (x1 : Int32) (x2 : Int32) (x3 : Int32) (x4 : Int32), k34 s x1 x2 x3 x4 = some (r, s') → J X E (sn a0) (ss a0) 5 (QR X E a0 (some (vl r)) s') s 34 [(0, vr (some 0)), (1, vi x1), (2, vi x2), (3, vi x3), (4, vi x4)] []) (s : St) (x1 : Int32) (x3 : Int32) (x4 : Int32) (z0 : Int32) (h : F_X5_crowd_68  k34 s x1 x3 x4 z0 = some (r, s')) : J X E (sn a0) (ss a0) 5 (QR X E a0 (some (vl r)) s') s 68 [(0, vr (some 0)), (1, vi x1), (3, vi x3), (4, vi x4)] [vi z0] := by
  unfold F_X5_crowd_68 at h
  refine r_istore_n (L' := [(0, vr (some 0)), (1, vi x1), (2, vi z0), (3, vi x3), (4, vi x4)]) B dX5_crowd_68 rfl (by decide) rfl rfl rfl ?_
  refine r_aload_n (j := 0) B dX5_crowd_69 rfl rfl ?_
  refine g5 (k := 51) B (vr (some 26)) rfl (fun z => by rw [(hS _ z).1 0 (by decide)]; rfl) rfl q1568 rfl (fun z => by rw [(hS _ z).2 _ (List.mem_of_getElem? (i := 25) rfl)]; rfl) dX5_crowd_70 ?_
  refine r_bipush (v := 6) B dX5_crowd_73 (by decide) ?_
  obtain ⟨hg1, h⟩ := gd_e h
  refine r_iald B rfl (fun z => (hS _ z).1 26 (by decide)) hg1 dX5_crowd_75 ?_
  refine r_iload_n (j := 3) B dX5_crowd_76 rfl rfl ?_
  refine r_ic_ge (tgt := 90) B dX5_crowd_77 (by decide) (fun cn2 => ?_) (fun cn2 => ?_)
  · have h := ot cn2 h
    refine r_iload_n (j := 3) B dX5_crowd_90 rfl rfl ?_
    refine r_istore_n (L' := [(0, vr (some 0)), (1, vi x1), (2, vi z0), (3, vi x3), (4, vi x4)]) B dX5_crowd_91 rfl (by decide) rfl rfl rfl ?_
    refine r_iinc (j := 4) (v := (x4 + (1))) (L' := [(0, vr (some 0)), (1, vi x1), (2, vi z0), (3, vi x3), (4, vi (x4 + (1)))]) B dX5_crowd_92 rfl rfl (by decide) rfl rfl rfl ?_
    refine r_goto (tgt := 34) B dX5_crowd_95 (by decide) ?_
    exact hk34 s x1 z0 x3 (x4 + (1)) h
  · have h := of cn2 h
    refine r_aload_n (j := 0) B dX5_crowd_80 rfl rfl ?_
    refine g5 (k := 51) B (vr (some 26)) rfl (fun z => by rw [(hS _ z).1 0 (by decide)]; rfl) rfl q1568 rfl (fun z => by rw [(hS _ z).2 _ (List.mem_of_getElem? (i := 25) rfl)]; rfl) dX5_crowd_81 ?_
    refine r_bipush (v := 6) B dX5_crowd_84 (by decide) ?_
    obtain ⟨hg3, h⟩ := gd_e h
    refine r_iald B rfl (fun z => (hS _ z).1 26 (by decide)) hg3 dX5_crowd_86 ?_
    refine r_goto (tgt := 91) B dX5_crowd_87 (by decide) ?_
    obtain ⟨y4, e5, h⟩ := nam_e h
    refine r_topi e5 ?_
    refine r_istore_n (L' := [(0, vr (some 0)), (1, vi x1), (2, vi z0), (3, vi y4), (4, vi x4)]) B dX5_crowd_91 rfl (by decide) rfl rfl rfl ?_
    refine r_iinc (j := 4) (v := (x4 + (1))) (L' := [(0, vr (some 0)), (1, vi x1), (2, vi z0), (3, vi y4), (4, vi (x4 + (1)))]) B dX5_crowd_92 rfl rfl (by decide) rfl rfl rfl ?_
    refine r_goto (tgt := 34) B dX5_crowd_95 (by decide) ?_
    exact hk34 s x1 z0 y4 (x4 + (1)) h
set_option maxHeartbeats 4000000 in
noncomputable def F_X5_crowd_34 : Nat → St → Int32 → Int32 → Int32 → Int32 → Option (Int64 × St)
  | 0 => fun _ _ _ _ _ => none
  | n + 1 => fun s x1 x2 x3 x4 => gd (inb (0 : Int32) 5460) <| if (si s 2 (0 : Int32).toNatClampNeg) < x4 then (if x1 = 0 then (some (((x2).toInt64), s)) else (bnd (F_X5_shorten s (((((60 : Int32) * (si s 0 45)) - x3)).toInt64) ((((60 : Int32) * (si s 0 45))).toInt64)) fun _ s5 => if x1 = (1 : Int32) then (some ((sl s5 0 46), s5)) else (some ((sl s5 0 47), s5)))) else (bnd (F_X5_findParts s x4) fun _ s9 => gd (inb (6 : Int32) 7) <| if x3 ≤ (si s9 26 (6 : Int32).toNatClampNeg) then (F_X5_crowd_68 (F_X5_crowd_34  n) s9 x1 x3 x4 x2) else (F_X5_crowd_68 (F_X5_crowd_34  n) s9 x1 x3 x4 x4))
set_option maxHeartbeats 4000000 in
theorem w_X5_crowd_34 {X : CX} {E : EV} {a0 s' : St} {r : Int64} (B : FX X E cX5_crowd 5 (some .long) "RoseThrowModel" "crowd" (sn a0) (ss a0) 8 191) (hS : ∀ σ, eSk E σ → SkM σ) : ∀ (n : Nat) (s : St) (x1 : Int32) (x2 : Int32) (x3 : Int32) (x4 : Int32), F_X5_crowd_34   n s x1 x2 x3 x4 = some (r, s') → J X E (sn a0) (ss a0) 5 (QR X E a0 (some (vl r)) s') s 34 [(0, vr (some 0)), (1, vi x1), (2, vi x2), (3, vi x3), (4, vi x4)] [] := by
  intro n
  induction n with
  | zero => intro s x1 x2 x3 x4 h; exact absurd (show (none : Option (Int64 × St)) = _ from h) (by simp)
  | succ n ih =>
    intro s x1 x2 x3 x4 h
    rw [F_X5_crowd_34] at h
    refine r_iload (j := 4) B dX5_crowd_34 rfl ?_
    refine r_aload_n (j := 0) B dX5_crowd_36 rfl rfl ?_
    refine g5 (k := 3) B (vr (some 2)) rfl (fun z => by rw [(hS _ z).1 0 (by decide)]; rfl) rfl q1520 rfl (fun z => by rw [(hS _ z).2 _ (List.mem_of_getElem? (i := 1) rfl)]; rfl) dX5_crowd_37 ?_
    refine r_iconst (v := 0) B dX5_crowd_40 (by decide) ?_
    obtain ⟨hg1, h⟩ := gd_e h
    refine r_iald B rfl (fun z => (hS _ z).1 2 (by decide)) hg1 dX5_crowd_41 ?_
    refine r_ic_gt (tgt := 98) B dX5_crowd_42 (by decide) (fun cn2 => ?_) (fun cn2 => ?_)
    · have h := ot cn2 h
      refine r_iload_n (j := 1) B dX5_crowd_98 rfl rfl ?_
      refine r_if_ne (tgt := 105) B dX5_crowd_99 (by decide) (fun cn3 => ?_) (fun cn3 => ?_)
      · have h := of cn3 h
        refine r_aload_n (j := 0) B dX5_crowd_105 rfl rfl ?_
        refine r_bipush (v := 60) B dX5_crowd_106 (by decide) ?_
        refine r_aload_n (j := 0) B dX5_crowd_108 rfl rfl ?_
        refine g5 (k := 45) B (vi (si s 0 45)) rfl (fun z => by rw [(hS _ z).1 0 (by decide)]; rfl) rfl q1562 rfl (fun _ => rfl) dX5_crowd_109 ?_
        refine r_imul B dX5_crowd_112 ?_
        refine r_iload_n (j := 3) B dX5_crowd_113 rfl rfl ?_
        refine r_isub B dX5_crowd_114 ?_
        refine r_i2l B dX5_crowd_115 ?_
        refine r_bipush (v := 60) B dX5_crowd_116 (by decide) ?_
        refine r_aload_n (j := 0) B dX5_crowd_118 rfl rfl ?_
        refine g5 (k := 45) B (vi (si s 0 45)) rfl (fun z => by rw [(hS _ z).1 0 (by decide)]; rfl) rfl q1562 rfl (fun _ => rfl) dX5_crowd_119 ?_
        refine r_imul B dX5_crowd_122 ?_
        refine r_i2l B dX5_crowd_123 ?_
        obtain ⟨r4, s5, hc6, h⟩ := bnd_e h
        refine r_callV0 (As := [vl (((((60 : Int32) * (si s 0 45)) - x3)).toInt64), vl ((((60 : Int32) * (si s 0 45))).toInt64)]) (rest := []) B rfl rfl EX.same (c_X5_shorten B.ge hS hc6) (cw_X5_shorten rfl rfl) (fun z => RV.of 5 ((fun z => by rw [(hS _ z).1 0 (by decide)]; rfl) z) rfl rfl qs96) q2024 q2026 rfl dX5_crowd_124 ?_
        refine r_iload_n (j := 1) B dX5_crowd_127 rfl rfl ?_
        refine r_iconst (v := 1) B dX5_crowd_128 (by decide) ?_
        refine r_ic_ne (tgt := 139) B dX5_crowd_129 (by decide) (fun cn7 => ?_) (fun cn7 => ?_)
        · have h := of cn7 h
          refine r_aload_n (j := 0) B dX5_crowd_139 rfl rfl ?_
          refine g5 (k := 47) B (vl (sl s5 0 47)) rfl (fun z => by rw [(hS _ z).1 0 (by decide)]; rfl) rfl q1564 rfl (fun _ => rfl) dX5_crowd_140 ?_
          exact r_lret B dX5_crowd_143 h
        · have h := ot cn7 h
          refine r_aload_n (j := 0) B dX5_crowd_132 rfl rfl ?_
          refine g5 (k := 46) B (vl (sl s5 0 46)) rfl (fun z => by rw [(hS _ z).1 0 (by decide)]; rfl) rfl q1563 rfl (fun _ => rfl) dX5_crowd_133 ?_
          refine r_goto (tgt := 143) B dX5_crowd_136 (by decide) ?_
          exact r_lret B dX5_crowd_143 h
      · have h := ot cn3 h
        refine r_iload_n (j := 2) B dX5_crowd_102 rfl rfl ?_
        refine r_i2l B dX5_crowd_103 ?_
        exact r_lret B dX5_crowd_104 h
    · have h := of cn2 h
      refine r_aload_n (j := 0) B dX5_crowd_45 rfl rfl ?_
      refine r_iload (j := 4) B dX5_crowd_46 rfl ?_
      obtain ⟨r8, s9, hc10, h⟩ := bnd_e h
      refine r_callV0 (As := [vi x4]) (rest := []) B rfl rfl EX.same (c_X5_findParts B.ge hS hc10) (cw_X5_findParts rfl rfl) (fun z => RV.of 5 ((fun z => by rw [(hS _ z).1 0 (by decide)]; rfl) z) rfl rfl qs98) q2036 q2038 rfl dX5_crowd_48 ?_
      refine r_aload_n (j := 0) B dX5_crowd_51 rfl rfl ?_
      refine g5 (k := 51) B (vr (some 26)) rfl (fun z => by rw [(hS _ z).1 0 (by decide)]; rfl) rfl q1568 rfl (fun z => by rw [(hS _ z).2 _ (List.mem_of_getElem? (i := 25) rfl)]; rfl) dX5_crowd_52 ?_
      refine r_bipush (v := 6) B dX5_crowd_55 (by decide) ?_
      obtain ⟨hg11, h⟩ := gd_e h
      refine r_iald B rfl (fun z => (hS _ z).1 26 (by decide)) hg11 dX5_crowd_57 ?_
      refine r_iload_n (j := 3) B dX5_crowd_58 rfl rfl ?_
      refine r_ic_ge (tgt := 67) B dX5_crowd_59 (by decide) (fun cn12 => ?_) (fun cn12 => ?_)
      · have h := ot cn12 h
        refine r_iload_n (j := 2) B dX5_crowd_67 rfl rfl ?_
        refine r_pick [0, 1, 3, 4] (L' := [(0, vr (some 0)), (1, vi x1), (3, vi x3), (4, vi x4)]) rfl ?_
        exact w_X5_crowd_68 B hS (F_X5_crowd_34  n) ih s9 x1 x3 x4 x2 h
      · have h := of cn12 h
        refine r_iload (j := 4) B dX5_crowd_62 rfl ?_
        refine r_goto (tgt := 68) B dX5_crowd_64 (by decide) ?_
        refine r_pick [0, 1, 3, 4] (L' := [(0, vr (some 0)), (1, vi x1), (3, vi x3), (4, vi x4)]) rfl ?_
        exact w_X5_crowd_68 B hS (F_X5_crowd_34  n) ih s9 x1 x3 x4 x4 h
set_option maxHeartbeats 4000000 in
noncomputable def F_X5_crowd (s : St) (p0 : Int32) : Option (Int64 × St) := nam (setI s 0 0 (0 : Int32)) fun s1 => bnd (F_X5_in s1 ((p0).toInt64) (0 : Int64) (2 : Int64)) fun r3 s4 => if r3 = 0 then (some ((-1 : Int64), s4)) else (bnd (F_X5_aimNow s4) fun _ s8 => F_X5_crowd_34 FU s8 p0 (0 : Int32) (1000000 : Int32) (0 : Int32))
set_option maxHeartbeats 4000000 in
theorem c_X5_crowd {l : Launch} {E : EV} (hE : GE E) (hS : ∀ σ, eSk E σ → SkM σ) {s s' : St} {r : Int64} {p0 : Int32} (h : F_X5_crowd  s p0 = some (r, s')) : CT l E yX5_crowd cX5_crowd 5 (some .long) 8 191 [vr (some 0), vi p0] s (some (vl r)) s' := by
  refine CT.start hE (by decide) rfl [(0, vr (some 0)), (1, vi p0)] rfl (fun X hX B => ?_)
  skip
  have B : FX X E cX5_crowd 5 (some .long) "RoseThrowModel" "crowd" (sn s) (ss s) 8 191 := B
  unfold F_X5_crowd at h
  refine r_aload_n (j := 0) B dX5_crowd_0 rfl rfl ?_
  refine r_iconst (v := 0) B dX5_crowd_1 (by decide) ?_
  obtain ⟨s1, e2, h⟩ := nam_e h
  refine pI5 (k := 0) B e2 rfl (fun z => by rw [(hS _ z).1 0 (by decide)]; rfl) rfl q1517 rfl rfl (fun _ _ _ => rfl) rfl dX5_crowd_2 ?_
  refine r_iload_n (j := 1) B dX5_crowd_5 rfl rfl ?_
  refine r_i2l B dX5_crowd_6 ?_
  refine r_lconst (v := 0) B dX5_crowd_7 (by decide) ?_
  refine r_ldc2 B dX5_crowd_8 q1835 ?_
  obtain ⟨r3, s4, hc5, h⟩ := bnd_e h
  refine r_callSv (As := [vl ((p0).toInt64), vl (0 : Int64), vl (2 : Int64)]) (rest := []) B rfl EX.same (c_X5_in B.ge hS hc5) (cw_X5_in rfl rfl) q1740 q1741 rfl dX5_crowd_11 ?_
  refine r_if_ne (tgt := 21) B dX5_crowd_14 (by decide) (fun cn6 => ?_) (fun cn6 => ?_)
  · have h := of cn6 h
    refine r_aload_n (j := 0) B dX5_crowd_21 rfl rfl ?_
    obtain ⟨r7, s8, hc9, h⟩ := bnd_e h
    refine r_callV0 (As := []) (rest := []) B rfl rfl EX.same (c_X5_aimNow B.ge hS hc9) (cw_X5_aimNow rfl rfl) (fun z => RV.of 5 ((fun z => by rw [(hS _ z).1 0 (by decide)]; rfl) z) rfl rfl qs91) q2004 q2006 rfl dX5_crowd_22 ?_
    refine r_iconst (v := 0) B dX5_crowd_25 (by decide) ?_
    refine r_istore_n (L' := [(0, vr (some 0)), (1, vi p0), (2, vi (0 : Int32))]) B dX5_crowd_26 rfl (by decide) rfl rfl rfl ?_
    refine r_ldcw B dX5_crowd_27 q2122 ?_
    refine r_istore_n (L' := [(0, vr (some 0)), (1, vi p0), (2, vi (0 : Int32)), (3, vi (1000000 : Int32))]) B dX5_crowd_30 rfl (by decide) rfl rfl rfl ?_
    refine r_iconst (v := 0) B dX5_crowd_31 (by decide) ?_
    refine r_istore (L' := [(0, vr (some 0)), (1, vi p0), (2, vi (0 : Int32)), (3, vi (1000000 : Int32)), (4, vi (0 : Int32))]) B dX5_crowd_32 (by decide) rfl rfl rfl ?_
    exact w_X5_crowd_34 B hS FU s8 p0 (0 : Int32) (1000000 : Int32) (0 : Int32) h
  · have h := ot cn6 h
    refine r_ldc2 B dX5_crowd_17 q1782 ?_
    exact r_lret B dX5_crowd_20 h
set_option maxHeartbeats 4000000 in
theorem cw_X5_crowd {X : CX} {fr lo : Nat} (h1 : Nat.ble (8 + 1) fr = true) (h2 : Nat.ble (24 + 191) lo = true) : CW X fr lo yX5_crowd cX5_crowd 5 (some .long) 8 191 1 := ⟨q2121, q136, ⟨by decide +kernel, by decide +kernel, by decide +kernel⟩, Nat.le_of_ble_eq_true h1, Nat.le_of_ble_eq_true h2⟩

set_option maxHeartbeats 4000000 in
noncomputable def F_X5_again (s : St) (p0 : Int32) : Option (Int64 × St) := nam (setI s 0 0 (0 : Int32)) fun s1 => bnd (F_X5_in s1 ((p0).toInt64) (0 : Int64) (1 : Int64)) fun r3 s4 => if r3 = 0 then (some ((-1 : Int64), s4)) else (bnd (F_X5_aimNow s4) fun _ s8 => bnd (F_X5_findAll s8) fun _ s11 => nam ((((60 : Int32) * (si s11 0 45))).toInt64) fun y13 => gd (inb (6 : Int32) 7) <| nam (((si s11 26 (6 : Int32).toNatClampNeg)).toInt64) fun y16 => bnd (F_X5_shorten s11 (y16 * y16) (y13 * y13)) fun _ s19 => if p0 = 0 then (some ((sl s19 0 46), s19)) else (some ((sl s19 0 47), s19)))
set_option maxHeartbeats 4000000 in
theorem c_X5_again {l : Launch} {E : EV} (hE : GE E) (hS : ∀ σ, eSk E σ → SkM σ) {s s' : St} {r : Int64} {p0 : Int32} (h : F_X5_again  s p0 = some (r, s')) : CT l E yX5_again cX5_again 6 (some .long) 9 211 [vr (some 0), vi p0] s (some (vl r)) s' := by
  refine CT.start hE (by decide) rfl [(0, vr (some 0)), (1, vi p0)] rfl (fun X hX B => ?_)
  skip
  have B : FX X E cX5_again 6 (some .long) "RoseThrowModel" "again" (sn s) (ss s) 9 211 := B
  unfold F_X5_again at h
  refine r_aload_n (j := 0) B dX5_again_0 rfl rfl ?_
  refine r_iconst (v := 0) B dX5_again_1 (by decide) ?_
  obtain ⟨s1, e2, h⟩ := nam_e h
  refine pI5 (k := 0) B e2 rfl (fun z => by rw [(hS _ z).1 0 (by decide)]; rfl) rfl q1517 rfl rfl (fun _ _ _ => rfl) rfl dX5_again_2 ?_
  refine r_iload_n (j := 1) B dX5_again_5 rfl rfl ?_
  refine r_i2l B dX5_again_6 ?_
  refine r_lconst (v := 0) B dX5_again_7 (by decide) ?_
  refine r_lconst (v := 1) B dX5_again_8 (by decide) ?_
  obtain ⟨r3, s4, hc5, h⟩ := bnd_e h
  refine r_callSv (As := [vl ((p0).toInt64), vl (0 : Int64), vl (1 : Int64)]) (rest := []) B rfl EX.same (c_X5_in B.ge hS hc5) (cw_X5_in rfl rfl) q1740 q1741 rfl dX5_again_9 ?_
  refine r_if_ne (tgt := 19) B dX5_again_12 (by decide) (fun cn6 => ?_) (fun cn6 => ?_)
  · have h := of cn6 h
    refine r_aload_n (j := 0) B dX5_again_19 rfl rfl ?_
    obtain ⟨r7, s8, hc9, h⟩ := bnd_e h
    refine r_callV0 (As := []) (rest := []) B rfl rfl EX.same (c_X5_aimNow B.ge hS hc9) (cw_X5_aimNow rfl rfl) (fun z => RV.of 5 ((fun z => by rw [(hS _ z).1 0 (by decide)]; rfl) z) rfl rfl qs91) q2004 q2006 rfl dX5_again_20 ?_
    refine r_aload_n (j := 0) B dX5_again_23 rfl rfl ?_
    obtain ⟨r10, s11, hc12, h⟩ := bnd_e h
    refine r_callV0 (As := []) (rest := []) B rfl rfl EX.same (c_X5_findAll B.ge hS hc12) (cw_X5_findAll rfl rfl) (fun z => RV.of 5 ((fun z => by rw [(hS _ z).1 0 (by decide)]; rfl) z) rfl rfl qs97) q2032 q2034 rfl dX5_again_24 ?_
    refine r_bipush (v := 60) B dX5_again_27 (by decide) ?_
    refine r_aload_n (j := 0) B dX5_again_29 rfl rfl ?_
    refine g5 (k := 45) B (vi (si s11 0 45)) rfl (fun z => by rw [(hS _ z).1 0 (by decide)]; rfl) rfl q1562 rfl (fun _ => rfl) dX5_again_30 ?_
    refine r_imul B dX5_again_33 ?_
    refine r_i2l B dX5_again_34 ?_
    obtain ⟨y13, e14, h⟩ := nam_e h
    refine r_topl e14 ?_
    refine r_lstore_n (L' := [(0, vr (some 0)), (1, vi p0), (2, vl y13)]) B dX5_again_35 rfl (by decide) rfl rfl rfl ?_
    refine r_aload_n (j := 0) B dX5_again_36 rfl rfl ?_
    refine g5 (k := 51) B (vr (some 26)) rfl (fun z => by rw [(hS _ z).1 0 (by decide)]; rfl) rfl q1568 rfl (fun z => by rw [(hS _ z).2 _ (List.mem_of_getElem? (i := 25) rfl)]; rfl) dX5_again_37 ?_
    refine r_bipush (v := 6) B dX5_again_40 (by decide) ?_
    obtain ⟨hg15, h⟩ := gd_e h
    refine r_iald B rfl (fun z => (hS _ z).1 26 (by decide)) hg15 dX5_again_42 ?_
    refine r_i2l B dX5_again_43 ?_
    obtain ⟨y16, e17, h⟩ := nam_e h
    refine r_topl e17 ?_
    refine r_lstore (L' := [(0, vr (some 0)), (1, vi p0), (2, vl y13), (4, vl y16)]) B dX5_again_44 (by decide) rfl rfl rfl ?_
    refine r_aload_n (j := 0) B dX5_again_46 rfl rfl ?_
    refine r_lload (j := 3) B dX5_again_47 rfl ?_
    refine r_lload (j := 3) B dX5_again_49 rfl ?_
    refine r_lmul B dX5_again_51 ?_
    refine r_lload_n (j := 2) B dX5_again_52 rfl rfl ?_
    refine r_lload_n (j := 2) B dX5_again_53 rfl rfl ?_
    refine r_lmul B dX5_again_54 ?_
    obtain ⟨r18, s19, hc20, h⟩ := bnd_e h
    refine r_callV0 (As := [vl (y16 * y16), vl (y13 * y13)]) (rest := []) B rfl rfl EX.same (c_X5_shorten B.ge hS hc20) (cw_X5_shorten rfl rfl) (fun z => RV.of 5 ((fun z => by rw [(hS _ z).1 0 (by decide)]; rfl) z) rfl rfl qs96) q2024 q2026 rfl dX5_again_55 ?_
    refine r_iload_n (j := 1) B dX5_again_58 rfl rfl ?_
    refine r_if_ne (tgt := 69) B dX5_again_59 (by decide) (fun cn21 => ?_) (fun cn21 => ?_)
    · have h := of cn21 h
      refine r_aload_n (j := 0) B dX5_again_69 rfl rfl ?_
      refine g5 (k := 47) B (vl (sl s19 0 47)) rfl (fun z => by rw [(hS _ z).1 0 (by decide)]; rfl) rfl q1564 rfl (fun _ => rfl) dX5_again_70 ?_
      exact r_lret B dX5_again_73 h
    · have h := ot cn21 h
      refine r_aload_n (j := 0) B dX5_again_62 rfl rfl ?_
      refine g5 (k := 46) B (vl (sl s19 0 46)) rfl (fun z => by rw [(hS _ z).1 0 (by decide)]; rfl) rfl q1563 rfl (fun _ => rfl) dX5_again_63 ?_
      refine r_goto (tgt := 73) B dX5_again_66 (by decide) ?_
      exact r_lret B dX5_again_73 h
  · have h := ot cn6 h
    refine r_ldc2 B dX5_again_15 q1782 ?_
    exact r_lret B dX5_again_18 h
set_option maxHeartbeats 4000000 in
theorem cw_X5_again {X : CX} {fr lo : Nat} (h1 : Nat.ble (9 + 1) fr = true) (h2 : Nat.ble (25 + 211) lo = true) : CW X fr lo yX5_again cX5_again 6 (some .long) 9 211 1 := ⟨q2126, q136, ⟨by decide +kernel, by decide +kernel, by decide +kernel⟩, Nat.le_of_ble_eq_true h1, Nat.le_of_ble_eq_true h2⟩

set_option maxHeartbeats 4000000 in
noncomputable def F_X5_truly_32 : Nat → St → Int32 → Int64 → Int32 → Option (Int64 × St)
  | 0 => fun _ _ _ _ => none
  | n + 1 => fun s x1 x2 x4 => gd (inb (0 : Int32) 5460) <| if (si s 2 (0 : Int32).toNatClampNeg) ≤ x4 then (bnd (F_X5_shorten s x2 ((6000 : Int64) * (((si s 0 45)).toInt64))) fun _ s4 => if x1 = 0 then (some ((sl s4 0 46), s4)) else (some ((sl s4 0 47), s4))) else (gd (inb x4 7) <| bnd (F_X5_wedOf s x4 (1 : Int32)) fun r8 s9 => nam (x2 + ((((si s 26 x4.toNatClampNeg) * r8)).toInt64)) fun y11 => F_X5_truly_32  n s9 x1 y11 (x4 + (1)))
set_option maxHeartbeats 4000000 in
theorem w_X5_truly_32 {X : CX} {E : EV} {a0 s' : St} {r : Int64} (B : FX X E cX5_truly 5 (some .long) "RoseThrowModel" "truly" (sn a0) (ss a0) 9 211) (hS : ∀ σ, eSk E σ → SkM σ) : ∀ (n : Nat) (s : St) (x1 : Int32) (x2 : Int64) (x4 : Int32), F_X5_truly_32   n s x1 x2 x4 = some (r, s') → J X E (sn a0) (ss a0) 5 (QR X E a0 (some (vl r)) s') s 32 [(0, vr (some 0)), (1, vi x1), (2, vl x2), (4, vi x4)] [] := by
  intro n
  induction n with
  | zero => intro s x1 x2 x4 h; exact absurd (show (none : Option (Int64 × St)) = _ from h) (by simp)
  | succ n ih =>
    intro s x1 x2 x4 h
    rw [F_X5_truly_32] at h
    refine r_iload (j := 3) B dX5_truly_32 rfl ?_
    refine r_aload_n (j := 0) B dX5_truly_34 rfl rfl ?_
    refine g5 (k := 3) B (vr (some 2)) rfl (fun z => by rw [(hS _ z).1 0 (by decide)]; rfl) rfl q1520 rfl (fun z => by rw [(hS _ z).2 _ (List.mem_of_getElem? (i := 1) rfl)]; rfl) dX5_truly_35 ?_
    refine r_iconst (v := 0) B dX5_truly_38 (by decide) ?_
    obtain ⟨hg1, h⟩ := gd_e h
    refine r_iald B rfl (fun z => (hS _ z).1 2 (by decide)) hg1 dX5_truly_39 ?_
    refine r_ic_ge (tgt := 68) B dX5_truly_40 (by decide) (fun cn2 => ?_) (fun cn2 => ?_)
    · have h := ot cn2 h
      refine r_aload_n (j := 0) B dX5_truly_68 rfl rfl ?_
      refine r_lload_n (j := 2) B dX5_truly_69 rfl rfl ?_
      refine r_ldc2 B dX5_truly_70 q2131 ?_
      refine r_aload_n (j := 0) B dX5_truly_73 rfl rfl ?_
      refine g5 (k := 45) B (vi (si s 0 45)) rfl (fun z => by rw [(hS _ z).1 0 (by decide)]; rfl) rfl q1562 rfl (fun _ => rfl) dX5_truly_74 ?_
      refine r_i2l B dX5_truly_77 ?_
      refine r_lmul B dX5_truly_78 ?_
      obtain ⟨r3, s4, hc5, h⟩ := bnd_e h
      refine r_callV0 (As := [vl x2, vl ((6000 : Int64) * (((si s 0 45)).toInt64))]) (rest := []) B rfl rfl EX.same (c_X5_shorten B.ge hS hc5) (cw_X5_shorten rfl rfl) (fun z => RV.of 5 ((fun z => by rw [(hS _ z).1 0 (by decide)]; rfl) z) rfl rfl qs96) q2024 q2026 rfl dX5_truly_79 ?_
      refine r_iload_n (j := 1) B dX5_truly_82 rfl rfl ?_
      refine r_if_ne (tgt := 93) B dX5_truly_83 (by decide) (fun cn6 => ?_) (fun cn6 => ?_)
      · have h := of cn6 h
        refine r_aload_n (j := 0) B dX5_truly_93 rfl rfl ?_
        refine g5 (k := 47) B (vl (sl s4 0 47)) rfl (fun z => by rw [(hS _ z).1 0 (by decide)]; rfl) rfl q1564 rfl (fun _ => rfl) dX5_truly_94 ?_
        exact r_lret B dX5_truly_97 h
      · have h := ot cn6 h
        refine r_aload_n (j := 0) B dX5_truly_86 rfl rfl ?_
        refine g5 (k := 46) B (vl (sl s4 0 46)) rfl (fun z => by rw [(hS _ z).1 0 (by decide)]; rfl) rfl q1563 rfl (fun _ => rfl) dX5_truly_87 ?_
        refine r_goto (tgt := 97) B dX5_truly_90 (by decide) ?_
        exact r_lret B dX5_truly_97 h
    · have h := of cn2 h
      refine r_lload_n (j := 2) B dX5_truly_43 rfl rfl ?_
      refine r_aload_n (j := 0) B dX5_truly_44 rfl rfl ?_
      refine g5 (k := 51) B (vr (some 26)) rfl (fun z => by rw [(hS _ z).1 0 (by decide)]; rfl) rfl q1568 rfl (fun z => by rw [(hS _ z).2 _ (List.mem_of_getElem? (i := 25) rfl)]; rfl) dX5_truly_45 ?_
      refine r_iload (j := 3) B dX5_truly_48 rfl ?_
      obtain ⟨hg7, h⟩ := gd_e h
      refine r_iald B rfl (fun z => (hS _ z).1 26 (by decide)) hg7 dX5_truly_50 ?_
      refine r_aload_n (j := 0) B dX5_truly_51 rfl rfl ?_
      refine r_iload (j := 3) B dX5_truly_52 rfl ?_
      refine r_iconst (v := 1) B dX5_truly_54 (by decide) ?_
      obtain ⟨r8, s9, hc10, h⟩ := bnd_e h
      refine r_callVv (As := [vi x4, vi (1 : Int32)]) (rest := [vi (si s 26 x4.toNatClampNeg), vl x2]) B rfl rfl EX.same (c_X5_wedOf B.ge hS hc10) (cw_X5_wedOf rfl rfl) (fun z => RV.of 5 ((fun z => by rw [(hS _ z).1 0 (by decide)]; rfl) z) rfl rfl qs89) q1992 q1994 rfl dX5_truly_55 ?_
      refine r_imul B dX5_truly_58 ?_
      refine r_i2l B dX5_truly_59 ?_
      refine r_ladd B dX5_truly_60 ?_
      obtain ⟨y11, e12, h⟩ := nam_e h
      refine r_topl e12 ?_
      refine r_lstore_n (L' := [(0, vr (some 0)), (1, vi x1), (2, vl y11), (4, vi x4)]) B dX5_truly_61 rfl (by decide) rfl rfl rfl ?_
      refine r_iinc (j := 3) (v := (x4 + (1))) (L' := [(0, vr (some 0)), (1, vi x1), (2, vl y11), (4, vi (x4 + (1)))]) B dX5_truly_62 rfl rfl (by decide) rfl rfl rfl ?_
      refine r_goto (tgt := 32) B dX5_truly_65 (by decide) ?_
      exact ih s9 x1 y11 (x4 + (1)) h
set_option maxHeartbeats 4000000 in
noncomputable def F_X5_truly (s : St) (p0 : Int32) : Option (Int64 × St) := nam (setI s 0 0 (0 : Int32)) fun s1 => bnd (F_X5_in s1 ((p0).toInt64) (0 : Int64) (1 : Int64)) fun r3 s4 => if r3 = 0 then (some ((-1 : Int64), s4)) else (bnd (F_X5_aimNow s4) fun _ s8 => bnd (F_X5_findAll s8) fun _ s11 => F_X5_truly_32 FU s11 p0 (0 : Int64) (0 : Int32))
set_option maxHeartbeats 4000000 in
theorem c_X5_truly {l : Launch} {E : EV} (hE : GE E) (hS : ∀ σ, eSk E σ → SkM σ) {s s' : St} {r : Int64} {p0 : Int32} (h : F_X5_truly  s p0 = some (r, s')) : CT l E yX5_truly cX5_truly 5 (some .long) 9 211 [vr (some 0), vi p0] s (some (vl r)) s' := by
  refine CT.start hE (by decide) rfl [(0, vr (some 0)), (1, vi p0)] rfl (fun X hX B => ?_)
  skip
  have B : FX X E cX5_truly 5 (some .long) "RoseThrowModel" "truly" (sn s) (ss s) 9 211 := B
  unfold F_X5_truly at h
  refine r_aload_n (j := 0) B dX5_truly_0 rfl rfl ?_
  refine r_iconst (v := 0) B dX5_truly_1 (by decide) ?_
  obtain ⟨s1, e2, h⟩ := nam_e h
  refine pI5 (k := 0) B e2 rfl (fun z => by rw [(hS _ z).1 0 (by decide)]; rfl) rfl q1517 rfl rfl (fun _ _ _ => rfl) rfl dX5_truly_2 ?_
  refine r_iload_n (j := 1) B dX5_truly_5 rfl rfl ?_
  refine r_i2l B dX5_truly_6 ?_
  refine r_lconst (v := 0) B dX5_truly_7 (by decide) ?_
  refine r_lconst (v := 1) B dX5_truly_8 (by decide) ?_
  obtain ⟨r3, s4, hc5, h⟩ := bnd_e h
  refine r_callSv (As := [vl ((p0).toInt64), vl (0 : Int64), vl (1 : Int64)]) (rest := []) B rfl EX.same (c_X5_in B.ge hS hc5) (cw_X5_in rfl rfl) q1740 q1741 rfl dX5_truly_9 ?_
  refine r_if_ne (tgt := 19) B dX5_truly_12 (by decide) (fun cn6 => ?_) (fun cn6 => ?_)
  · have h := of cn6 h
    refine r_aload_n (j := 0) B dX5_truly_19 rfl rfl ?_
    obtain ⟨r7, s8, hc9, h⟩ := bnd_e h
    refine r_callV0 (As := []) (rest := []) B rfl rfl EX.same (c_X5_aimNow B.ge hS hc9) (cw_X5_aimNow rfl rfl) (fun z => RV.of 5 ((fun z => by rw [(hS _ z).1 0 (by decide)]; rfl) z) rfl rfl qs91) q2004 q2006 rfl dX5_truly_20 ?_
    refine r_aload_n (j := 0) B dX5_truly_23 rfl rfl ?_
    obtain ⟨r10, s11, hc12, h⟩ := bnd_e h
    refine r_callV0 (As := []) (rest := []) B rfl rfl EX.same (c_X5_findAll B.ge hS hc12) (cw_X5_findAll rfl rfl) (fun z => RV.of 5 ((fun z => by rw [(hS _ z).1 0 (by decide)]; rfl) z) rfl rfl qs97) q2032 q2034 rfl dX5_truly_24 ?_
    refine r_lconst (v := 0) B dX5_truly_27 (by decide) ?_
    refine r_lstore_n (L' := [(0, vr (some 0)), (1, vi p0), (2, vl (0 : Int64))]) B dX5_truly_28 rfl (by decide) rfl rfl rfl ?_
    refine r_iconst (v := 0) B dX5_truly_29 (by decide) ?_
    refine r_istore (L' := [(0, vr (some 0)), (1, vi p0), (2, vl (0 : Int64)), (4, vi (0 : Int32))]) B dX5_truly_30 (by decide) rfl rfl rfl ?_
    exact w_X5_truly_32 B hS FU s11 p0 (0 : Int64) (0 : Int32) h
  · have h := ot cn6 h
    refine r_ldc2 B dX5_truly_15 q1782 ?_
    exact r_lret B dX5_truly_18 h
set_option maxHeartbeats 4000000 in
theorem cw_X5_truly {X : CX} {fr lo : Nat} (h1 : Nat.ble (9 + 1) fr = true) (h2 : Nat.ble (24 + 211) lo = true) : CW X fr lo yX5_truly cX5_truly 5 (some .long) 9 211 1 := ⟨q2130, q136, ⟨by decide +kernel, by decide +kernel, by decide +kernel⟩, Nat.le_of_ble_eq_true h1, Nat.le_of_ble_eq_true h2⟩

set_option maxHeartbeats 4000000 in
noncomputable def F_X5_meant_150 (k121 : St → Int32 → Int32 → Int32 → Option (Int64 × St)) (s : St) (x4 : Int32) (x5 : Int32) (z0 : Int32) : Option (Int64 × St) := gd (inb x5 7) <| if (si s 26 x5.toNatClampNeg) ≤ x4 then (k121 s z0 x4 (x5 + (1))) else (gd (inb x5 7) <| k121 s z0 (si s 26 x5.toNatClampNeg) (x5 + (1)))
set_option maxHeartbeats 4000000 in
theorem w_X5_meant_150 {X : CX} {E : EV} {a0 s' : St} {r : Int64} (B : FX X E cX5_meant 6 (some .long) "RoseThrowModel" "meant" (sn a0) (ss a0) 9 211) (hS : ∀ σ, eSk E σ → SkM σ) (k121 : St → Int32 → Int32 → Int32 → Option (Int64 × St)) (hk121 : ∀ (s : St) (x3 : Int32) (x4 : Int32) (x5 : Int32), k121 s x3 x4 x5 = some (r, s') → J X E (sn a0) (ss a0) 6 (QR X E a0 (some (vl r)) s') s 121 [(0, vr (some 0)), (3, vi x3), (4, vi x4), (5, vi x5)] []) (s : St) (x4 : Int32) (x5 : Int32) (z0 : Int32) (h : F_X5_meant_150  k121 s x4 x5 z0 = some (r, s')) : J X E (sn a0) (ss a0) 6 (QR X E a0 (some (vl r)) s') s 150 [(0, vr (some 0)), (4, vi x4), (5, vi x5)] [vi z0] := by
  unfold F_X5_meant_150 at h
  refine r_istore_n (L' := [(0, vr (some 0)), (3, vi z0), (4, vi x4), (5, vi x5)]) B dX5_meant_150 rfl (by decide) rfl rfl rfl ?_
  refine r_aload_n (j := 0) B dX5_meant_151 rfl rfl ?_
  refine g5 (k := 51) B (vr (some 26)) rfl (fun z => by rw [(hS _ z).1 0 (by decide)]; rfl) rfl q1568 rfl (fun z => by rw [(hS _ z).2 _ (List.mem_of_getElem? (i := 25) rfl)]; rfl) dX5_meant_152 ?_
  refine r_iload (j := 3) B dX5_meant_155 rfl ?_
  obtain ⟨hg1, h⟩ := gd_e h
  refine r_iald B rfl (fun z => (hS _ z).1 26 (by decide)) hg1 dX5_meant_157 ?_
  refine r_iload (j := 2) B dX5_meant_158 rfl ?_
  refine r_ic_le (tgt := 173) B dX5_meant_160 (by decide) (fun cn2 => ?_) (fun cn2 => ?_)
  · have h := ot cn2 h
    refine r_iload (j := 2) B dX5_meant_173 rfl ?_
    refine r_istore (L' := [(0, vr (some 0)), (3, vi z0), (4, vi x4), (5, vi x5)]) B dX5_meant_175 (by decide) rfl rfl rfl ?_
    refine r_iinc (j := 3) (v := (x5 + (1))) (L' := [(0, vr (some 0)), (3, vi z0), (4, vi x4), (5, vi (x5 + (1)))]) B dX5_meant_177 rfl rfl (by decide) rfl rfl rfl ?_
    refine r_goto (tgt := 121) B dX5_meant_180 (by decide) ?_
    exact hk121 s z0 x4 (x5 + (1)) h
  · have h := of cn2 h
    refine r_aload_n (j := 0) B dX5_meant_163 rfl rfl ?_
    refine g5 (k := 51) B (vr (some 26)) rfl (fun z => by rw [(hS _ z).1 0 (by decide)]; rfl) rfl q1568 rfl (fun z => by rw [(hS _ z).2 _ (List.mem_of_getElem? (i := 25) rfl)]; rfl) dX5_meant_164 ?_
    refine r_iload (j := 3) B dX5_meant_167 rfl ?_
    obtain ⟨hg3, h⟩ := gd_e h
    refine r_iald B rfl (fun z => (hS _ z).1 26 (by decide)) hg3 dX5_meant_169 ?_
    refine r_goto (tgt := 175) B dX5_meant_170 (by decide) ?_
    refine r_istore (L' := [(0, vr (some 0)), (3, vi z0), (4, vi (si s 26 x5.toNatClampNeg)), (5, vi x5)]) B dX5_meant_175 (by decide) rfl rfl rfl ?_
    refine r_iinc (j := 3) (v := (x5 + (1))) (L' := [(0, vr (some 0)), (3, vi z0), (4, vi (si s 26 x5.toNatClampNeg)), (5, vi (x5 + (1)))]) B dX5_meant_177 rfl rfl (by decide) rfl rfl rfl ?_
    refine r_goto (tgt := 121) B dX5_meant_180 (by decide) ?_
    exact hk121 s z0 (si s 26 x5.toNatClampNeg) (x5 + (1)) h
set_option maxHeartbeats 4000000 in
noncomputable def F_X5_meant_121 : Nat → St → Int32 → Int32 → Int32 → Option (Int64 × St)
  | 0 => fun _ _ _ _ => none
  | n + 1 => fun s x3 x4 x5 => gd (inb (0 : Int32) 5460) <| if (si s 2 (0 : Int32).toNatClampNeg) ≤ x5 then (some (((x3).toInt64), s)) else (gd (inb x5 7) <| if (si s 26 x5.toNatClampNeg) ≤ x4 then (F_X5_meant_150 (F_X5_meant_121  n) s x4 x5 x3) else (F_X5_meant_150 (F_X5_meant_121  n) s x4 x5 x5))
set_option maxHeartbeats 4000000 in
theorem w_X5_meant_121 {X : CX} {E : EV} {a0 s' : St} {r : Int64} (B : FX X E cX5_meant 6 (some .long) "RoseThrowModel" "meant" (sn a0) (ss a0) 9 211) (hS : ∀ σ, eSk E σ → SkM σ) : ∀ (n : Nat) (s : St) (x3 : Int32) (x4 : Int32) (x5 : Int32), F_X5_meant_121   n s x3 x4 x5 = some (r, s') → J X E (sn a0) (ss a0) 6 (QR X E a0 (some (vl r)) s') s 121 [(0, vr (some 0)), (3, vi x3), (4, vi x4), (5, vi x5)] [] := by
  intro n
  induction n with
  | zero => intro s x3 x4 x5 h; exact absurd (show (none : Option (Int64 × St)) = _ from h) (by simp)
  | succ n ih =>
    intro s x3 x4 x5 h
    rw [F_X5_meant_121] at h
    refine r_iload (j := 3) B dX5_meant_121 rfl ?_
    refine r_aload_n (j := 0) B dX5_meant_123 rfl rfl ?_
    refine g5 (k := 3) B (vr (some 2)) rfl (fun z => by rw [(hS _ z).1 0 (by decide)]; rfl) rfl q1520 rfl (fun z => by rw [(hS _ z).2 _ (List.mem_of_getElem? (i := 1) rfl)]; rfl) dX5_meant_124 ?_
    refine r_iconst (v := 0) B dX5_meant_127 (by decide) ?_
    obtain ⟨hg1, h⟩ := gd_e h
    refine r_iald B rfl (fun z => (hS _ z).1 2 (by decide)) hg1 dX5_meant_128 ?_
    refine r_ic_ge (tgt := 183) B dX5_meant_129 (by decide) (fun cn2 => ?_) (fun cn2 => ?_)
    · have h := ot cn2 h
      refine r_iload_n (j := 1) B dX5_meant_183 rfl rfl ?_
      refine r_i2l B dX5_meant_184 ?_
      exact r_lret B dX5_meant_185 h
    · have h := of cn2 h
      refine r_aload_n (j := 0) B dX5_meant_132 rfl rfl ?_
      refine g5 (k := 51) B (vr (some 26)) rfl (fun z => by rw [(hS _ z).1 0 (by decide)]; rfl) rfl q1568 rfl (fun z => by rw [(hS _ z).2 _ (List.mem_of_getElem? (i := 25) rfl)]; rfl) dX5_meant_133 ?_
      refine r_iload (j := 3) B dX5_meant_136 rfl ?_
      obtain ⟨hg3, h⟩ := gd_e h
      refine r_iald B rfl (fun z => (hS _ z).1 26 (by decide)) hg3 dX5_meant_138 ?_
      refine r_iload (j := 2) B dX5_meant_139 rfl ?_
      refine r_ic_le (tgt := 149) B dX5_meant_141 (by decide) (fun cn4 => ?_) (fun cn4 => ?_)
      · have h := ot cn4 h
        refine r_iload_n (j := 1) B dX5_meant_149 rfl rfl ?_
        refine r_pick [0, 2, 3] (L' := [(0, vr (some 0)), (4, vi x4), (5, vi x5)]) rfl ?_
        exact w_X5_meant_150 B hS (F_X5_meant_121  n) ih s x4 x5 x3 h
      · have h := of cn4 h
        refine r_iload (j := 3) B dX5_meant_144 rfl ?_
        refine r_goto (tgt := 150) B dX5_meant_146 (by decide) ?_
        refine r_pick [0, 2, 3] (L' := [(0, vr (some 0)), (4, vi x4), (5, vi x5)]) rfl ?_
        exact w_X5_meant_150 B hS (F_X5_meant_121  n) ih s x4 x5 x5 h
set_option maxHeartbeats 4000000 in
noncomputable def F_X5_meant_39 : Nat → St → Int32 → Int32 → Int32 → Option (Int64 × St)
  | 0 => fun _ _ _ _ => none
  | n + 1 => fun s x1 x2 x3 => if (25 : Int32) ≤ x3 then (if (si s 0 54) = (-1 : Int32) then (some ((-1 : Int64), s)) else (if (4 : Int32) ≤ x2 then (bnd (F_X5_aimAt s (si s 0 54)) fun _ s5 => bnd (F_X5_findAll s5) fun _ s8 => F_X5_meant_121 FU s8 (-1 : Int32) (0 : Int32) (0 : Int32)) else (bnd (F_X5_tellThrow s (si s 0 54) x2) fun r10 s11 => some (r10, s11)))) else (bnd (F_X5_aimAt s x3) fun _ s14 => gd (inb x1 37) <| bnd (F_X5_weigh s14 x3 x3 (((si s14 22 x1.toNatClampNeg)).toInt64) (((si s14 0 45)).toInt64)) fun _ s18 => F_X5_meant_39  n s18 x1 x2 (x3 + (1)))
set_option maxHeartbeats 4000000 in
theorem w_X5_meant_39 {X : CX} {E : EV} {a0 s' : St} {r : Int64} (B : FX X E cX5_meant 6 (some .long) "RoseThrowModel" "meant" (sn a0) (ss a0) 9 211) (hS : ∀ σ, eSk E σ → SkM σ) : ∀ (n : Nat) (s : St) (x1 : Int32) (x2 : Int32) (x3 : Int32), F_X5_meant_39   n s x1 x2 x3 = some (r, s') → J X E (sn a0) (ss a0) 6 (QR X E a0 (some (vl r)) s') s 39 [(0, vr (some 0)), (1, vi x1), (2, vi x2), (3, vi x3)] [] := by
  intro n
  induction n with
  | zero => intro s x1 x2 x3 h; exact absurd (show (none : Option (Int64 × St)) = _ from h) (by simp)
  | succ n ih =>
    intro s x1 x2 x3 h
    rw [F_X5_meant_39] at h
    refine r_iload_n (j := 3) B dX5_meant_39 rfl rfl ?_
    refine r_bipush (v := 25) B dX5_meant_40 (by decide) ?_
    refine r_ic_ge (tgt := 74) B dX5_meant_42 (by decide) (fun cn1 => ?_) (fun cn1 => ?_)
    · have h := ot cn1 h
      refine r_aload_n (j := 0) B dX5_meant_74 rfl rfl ?_
      refine g5 (k := 54) B (vi (si s 0 54)) rfl (fun z => by rw [(hS _ z).1 0 (by decide)]; rfl) rfl q1571 rfl (fun _ => rfl) dX5_meant_75 ?_
      refine r_iconst (v := -1) B dX5_meant_78 (by decide) ?_
      refine r_ic_ne (tgt := 86) B dX5_meant_79 (by decide) (fun cn2 => ?_) (fun cn2 => ?_)
      · have h := of cn2 h
        refine r_iload_n (j := 2) B dX5_meant_86 rfl rfl ?_
        refine r_iconst (v := 4) B dX5_meant_87 (by decide) ?_
        refine r_ic_ge (tgt := 101) B dX5_meant_88 (by decide) (fun cn3 => ?_) (fun cn3 => ?_)
        · have h := ot cn3 h
          refine r_aload_n (j := 0) B dX5_meant_101 rfl rfl ?_
          refine r_aload_n (j := 0) B dX5_meant_102 rfl rfl ?_
          refine g5 (k := 54) B (vi (si s 0 54)) rfl (fun z => by rw [(hS _ z).1 0 (by decide)]; rfl) rfl q1571 rfl (fun _ => rfl) dX5_meant_103 ?_
          obtain ⟨r4, s5, hc6, h⟩ := bnd_e h
          refine r_callV0 (As := [vi (si s 0 54)]) (rest := []) B rfl rfl EX.same (c_X5_aimAt B.ge hS hc6) (cw_X5_aimAt rfl rfl) (fun z => RV.of 5 ((fun z => by rw [(hS _ z).1 0 (by decide)]; rfl) z) rfl rfl qs106) q2086 q2088 rfl dX5_meant_106 ?_
          refine r_aload_n (j := 0) B dX5_meant_109 rfl rfl ?_
          obtain ⟨r7, s8, hc9, h⟩ := bnd_e h
          refine r_callV0 (As := []) (rest := []) B rfl rfl EX.same (c_X5_findAll B.ge hS hc9) (cw_X5_findAll rfl rfl) (fun z => RV.of 5 ((fun z => by rw [(hS _ z).1 0 (by decide)]; rfl) z) rfl rfl qs97) q2032 q2034 rfl dX5_meant_110 ?_
          refine r_iconst (v := -1) B dX5_meant_113 (by decide) ?_
          refine r_istore_n (L' := [(0, vr (some 0)), (1, vi x1), (2, vi x2), (3, vi (-1 : Int32))]) B dX5_meant_114 rfl (by decide) rfl rfl rfl ?_
          refine r_iconst (v := 0) B dX5_meant_115 (by decide) ?_
          refine r_istore (L' := [(0, vr (some 0)), (1, vi x1), (2, vi x2), (3, vi (-1 : Int32)), (4, vi (0 : Int32))]) B dX5_meant_116 (by decide) rfl rfl rfl ?_
          refine r_iconst (v := 0) B dX5_meant_118 (by decide) ?_
          refine r_istore (L' := [(0, vr (some 0)), (1, vi x1), (2, vi x2), (3, vi (-1 : Int32)), (4, vi (0 : Int32)), (5, vi (0 : Int32))]) B dX5_meant_119 (by decide) rfl rfl rfl ?_
          refine r_pick [0, 3, 4, 5] (L' := [(0, vr (some 0)), (3, vi (-1 : Int32)), (4, vi (0 : Int32)), (5, vi (0 : Int32))]) rfl ?_
          exact w_X5_meant_121 B hS FU s8 (-1 : Int32) (0 : Int32) (0 : Int32) h
        · have h := of cn3 h
          refine r_aload_n (j := 0) B dX5_meant_91 rfl rfl ?_
          refine r_aload_n (j := 0) B dX5_meant_92 rfl rfl ?_
          refine g5 (k := 54) B (vi (si s 0 54)) rfl (fun z => by rw [(hS _ z).1 0 (by decide)]; rfl) rfl q1571 rfl (fun _ => rfl) dX5_meant_93 ?_
          refine r_iload_n (j := 2) B dX5_meant_96 rfl rfl ?_
          obtain ⟨r10, s11, hc12, h⟩ := bnd_e h
          refine r_callVv (As := [vi (si s 0 54), vi x2]) (rest := []) B rfl rfl EX.same (c_X5_tellThrow B.ge hS hc12) (cw_X5_tellThrow rfl rfl) (fun z => RV.of 5 ((fun z => by rw [(hS _ z).1 0 (by decide)]; rfl) z) rfl rfl qs108) q2094 q2096 rfl dX5_meant_97 ?_
          exact r_lret B dX5_meant_100 h
      · have h := ot cn2 h
        refine r_ldc2 B dX5_meant_82 q1782 ?_
        exact r_lret B dX5_meant_85 h
    · have h := of cn1 h
      refine r_aload_n (j := 0) B dX5_meant_45 rfl rfl ?_
      refine r_iload_n (j := 3) B dX5_meant_46 rfl rfl ?_
      obtain ⟨r13, s14, hc15, h⟩ := bnd_e h
      refine r_callV0 (As := [vi x3]) (rest := []) B rfl rfl EX.same (c_X5_aimAt B.ge hS hc15) (cw_X5_aimAt rfl rfl) (fun z => RV.of 5 ((fun z => by rw [(hS _ z).1 0 (by decide)]; rfl) z) rfl rfl qs106) q2086 q2088 rfl dX5_meant_47 ?_
      refine r_aload_n (j := 0) B dX5_meant_50 rfl rfl ?_
      refine r_iload_n (j := 3) B dX5_meant_51 rfl rfl ?_
      refine r_iload_n (j := 3) B dX5_meant_52 rfl rfl ?_
      refine r_aload_n (j := 0) B dX5_meant_53 rfl rfl ?_
      refine g5 (k := 42) B (vr (some 22)) rfl (fun z => by rw [(hS _ z).1 0 (by decide)]; rfl) rfl q1559 rfl (fun z => by rw [(hS _ z).2 _ (List.mem_of_getElem? (i := 21) rfl)]; rfl) dX5_meant_54 ?_
      refine r_iload_n (j := 1) B dX5_meant_57 rfl rfl ?_
      obtain ⟨hg16, h⟩ := gd_e h
      refine r_iald B rfl (fun z => (hS _ z).1 22 (by decide)) hg16 dX5_meant_58 ?_
      refine r_i2l B dX5_meant_59 ?_
      refine r_aload_n (j := 0) B dX5_meant_60 rfl rfl ?_
      refine g5 (k := 45) B (vi (si s14 0 45)) rfl (fun z => by rw [(hS _ z).1 0 (by decide)]; rfl) rfl q1562 rfl (fun _ => rfl) dX5_meant_61 ?_
      refine r_i2l B dX5_meant_64 ?_
      obtain ⟨r17, s18, hc19, h⟩ := bnd_e h
      refine r_callV0 (As := [vi x3, vi x3, vl (((si s14 22 x1.toNatClampNeg)).toInt64), vl (((si s14 0 45)).toInt64)]) (rest := []) B rfl rfl EX.same (c_X5_weigh B.ge hS hc19) (cw_X5_weigh rfl rfl) (fun z => RV.of 5 ((fun z => by rw [(hS _ z).1 0 (by decide)]; rfl) z) rfl rfl qs107) q2090 q2092 rfl dX5_meant_65 ?_
      refine r_iinc (j := 3) (v := (x3 + (1))) (L' := [(0, vr (some 0)), (1, vi x1), (2, vi x2), (3, vi (x3 + (1)))]) B dX5_meant_68 rfl rfl (by decide) rfl rfl rfl ?_
      refine r_goto (tgt := 39) B dX5_meant_71 (by decide) ?_
      exact ih s18 x1 x2 (x3 + (1)) h
set_option maxHeartbeats 4000000 in
noncomputable def F_X5_meant (s : St) (p0 : Int32) (p1 : Int32) : Option (Int64 × St) := nam (setI s 0 0 (0 : Int32)) fun s1 => bnd (F_X5_isCell s1 p0) fun r3 s4 => if r3 = 0 then (some ((-1 : Int64), s4)) else (bnd (F_X5_in s4 ((p1).toInt64) (0 : Int64) (4 : Int64)) fun r7 s8 => if r7 = 0 then (some ((-1 : Int64), s8)) else (bnd (F_X5_beginBest s8) fun _ s12 => nam (setL s12 0 56 (0 : Int64)) fun s14 => F_X5_meant_39 FU s14 p0 p1 (0 : Int32)))
set_option maxHeartbeats 4000000 in
theorem c_X5_meant {l : Launch} {E : EV} (hE : GE E) (hS : ∀ σ, eSk E σ → SkM σ) {s s' : St} {r : Int64} {p0 : Int32} {p1 : Int32} (h : F_X5_meant  s p0 p1 = some (r, s')) : CT l E yX5_meant cX5_meant 6 (some .long) 9 211 [vr (some 0), vi p0, vi p1] s (some (vl r)) s' := by
  refine CT.start hE (by decide) rfl [(0, vr (some 0)), (1, vi p0), (2, vi p1)] rfl (fun X hX B => ?_)
  skip
  have B : FX X E cX5_meant 6 (some .long) "RoseThrowModel" "meant" (sn s) (ss s) 9 211 := B
  unfold F_X5_meant at h
  refine r_aload_n (j := 0) B dX5_meant_0 rfl rfl ?_
  refine r_iconst (v := 0) B dX5_meant_1 (by decide) ?_
  obtain ⟨s1, e2, h⟩ := nam_e h
  refine pI5 (k := 0) B e2 rfl (fun z => by rw [(hS _ z).1 0 (by decide)]; rfl) rfl q1517 rfl rfl (fun _ _ _ => rfl) rfl dX5_meant_2 ?_
  refine r_iload_n (j := 1) B dX5_meant_5 rfl rfl ?_
  obtain ⟨r3, s4, hc5, h⟩ := bnd_e h
  refine r_callSv (As := [vi p0]) (rest := []) B rfl EX.same (c_X5_isCell B.ge hS hc5) (cw_X5_isCell rfl rfl) q1755 q1756 rfl dX5_meant_6 ?_
  refine r_if_eq (tgt := 24) B dX5_meant_9 (by decide) (fun cn6 => ?_) (fun cn6 => ?_)
  · have h := ot cn6 h
    refine r_ldc2 B dX5_meant_24 q1782 ?_
    exact r_lret B dX5_meant_27 h
  · have h := of cn6 h
    refine r_iload_n (j := 2) B dX5_meant_12 rfl rfl ?_
    refine r_i2l B dX5_meant_13 ?_
    refine r_lconst (v := 0) B dX5_meant_14 (by decide) ?_
    refine r_ldc2 B dX5_meant_15 q1825 ?_
    obtain ⟨r7, s8, hc9, h⟩ := bnd_e h
    refine r_callSv (As := [vl ((p1).toInt64), vl (0 : Int64), vl (4 : Int64)]) (rest := []) B rfl EX.same (c_X5_in B.ge hS hc9) (cw_X5_in rfl rfl) q1740 q1741 rfl dX5_meant_18 ?_
    refine r_if_ne (tgt := 28) B dX5_meant_21 (by decide) (fun cn10 => ?_) (fun cn10 => ?_)
    · have h := of cn10 h
      refine r_aload_n (j := 0) B dX5_meant_28 rfl rfl ?_
      obtain ⟨r11, s12, hc13, h⟩ := bnd_e h
      refine r_callV0 (As := []) (rest := []) B rfl rfl EX.same (c_X5_beginBest B.ge hS hc13) (cw_X5_beginBest rfl rfl) (fun z => RV.of 5 ((fun z => by rw [(hS _ z).1 0 (by decide)]; rfl) z) rfl rfl qs105) q2082 q2084 rfl dX5_meant_29 ?_
      refine r_aload_n (j := 0) B dX5_meant_32 rfl rfl ?_
      refine r_lconst (v := 0) B dX5_meant_33 (by decide) ?_
      obtain ⟨s14, e15, h⟩ := nam_e h
      refine pL5 (k := 56) B e15 rfl (fun z => by rw [(hS _ z).1 0 (by decide)]; rfl) rfl q1573 rfl rfl rfl dX5_meant_34 ?_
      refine r_iconst (v := 0) B dX5_meant_37 (by decide) ?_
      refine r_istore_n (L' := [(0, vr (some 0)), (1, vi p0), (2, vi p1), (3, vi (0 : Int32))]) B dX5_meant_38 rfl (by decide) rfl rfl rfl ?_
      exact w_X5_meant_39 B hS FU s14 p0 p1 (0 : Int32) h
    · have h := ot cn10 h
      refine r_ldc2 B dX5_meant_24 q1782 ?_
      exact r_lret B dX5_meant_27 h
set_option maxHeartbeats 4000000 in
theorem cw_X5_meant {X : CX} {fr lo : Nat} (h1 : Nat.ble (9 + 1) fr = true) (h2 : Nat.ble (25 + 211) lo = true) : CW X fr lo yX5_meant cX5_meant 6 (some .long) 9 211 2 := ⟨q2135, q136, ⟨by decide +kernel, by decide +kernel, by decide +kernel⟩, Nat.le_of_ble_eq_true h1, Nat.le_of_ble_eq_true h2⟩

set_option maxHeartbeats 4000000 in
noncomputable def F_X5_film (s : St) (p0 : Int32) : Option (Int32 × St) := nam (setI s 0 0 (0 : Int32)) fun s1 => bnd (F_X5_isCell s1 p0) fun r3 s4 => if r3 = 0 then (bnd (F_X5_tell s4 (-1 : Int32)) fun r24 s25 => some (r24, s25)) else (gd (inb (1 : Int32) 5460) <| nam (si s4 2 (1 : Int32).toNatClampNeg) fun y8 => if y8 = (8 : Int32) then (bnd (F_X5_tell s4 (-5 : Int32)) fun r21 s22 => some (r21, s22)) else (gd (inb ((43 : Int32) + y8) 5460) <| nam (setI s4 2 ((43 : Int32) + y8).toNatClampNeg p0) fun s12 => gd (inb (1 : Int32) 5460) <| gd (inb (1 : Int32) 5460) <| nam (setI s12 2 (1 : Int32).toNatClampNeg ((si s12 2 (1 : Int32).toNatClampNeg) + (1 : Int32))) fun s16 => bnd (F_X5_tell s16 (y8 + (1 : Int32))) fun r18 s19 => some (r18, s19)))
set_option maxHeartbeats 4000000 in
theorem c_X5_film {l : Launch} {E : EV} (hE : GE E) (hS : ∀ σ, eSk E σ → SkM σ) {s s' : St} {r : Int32} {p0 : Int32} (h : F_X5_film  s p0 = some (r, s')) : CT l E yX5_film cX5_film 3 (some .int) 2 45 [vr (some 0), vi p0] s (some (vi r)) s' := by
  refine CT.start hE (by decide) rfl [(0, vr (some 0)), (1, vi p0)] rfl (fun X hX B => ?_)
  skip
  have B : FX X E cX5_film 3 (some .int) "RoseThrowModel" "film" (sn s) (ss s) 2 45 := B
  unfold F_X5_film at h
  refine r_aload_n (j := 0) B dX5_film_0 rfl rfl ?_
  refine r_iconst (v := 0) B dX5_film_1 (by decide) ?_
  obtain ⟨s1, e2, h⟩ := nam_e h
  refine pI5 (k := 0) B e2 rfl (fun z => by rw [(hS _ z).1 0 (by decide)]; rfl) rfl q1517 rfl rfl (fun _ _ _ => rfl) rfl dX5_film_2 ?_
  refine r_iload_n (j := 1) B dX5_film_5 rfl rfl ?_
  obtain ⟨r3, s4, hc5, h⟩ := bnd_e h
  refine r_callSv (As := [vi p0]) (rest := []) B rfl EX.same (c_X5_isCell B.ge hS hc5) (cw_X5_isCell rfl rfl) q1755 q1756 rfl dX5_film_6 ?_
  refine r_if_ne (tgt := 18) B dX5_film_9 (by decide) (fun cn6 => ?_) (fun cn6 => ?_)
  · have h := of cn6 h
    refine r_aload_n (j := 0) B dX5_film_18 rfl rfl ?_
    refine g5 (k := 3) B (vr (some 2)) rfl (fun z => by rw [(hS _ z).1 0 (by decide)]; rfl) rfl q1520 rfl (fun z => by rw [(hS _ z).2 _ (List.mem_of_getElem? (i := 1) rfl)]; rfl) dX5_film_19 ?_
    refine r_iconst (v := 1) B dX5_film_22 (by decide) ?_
    obtain ⟨hg7, h⟩ := gd_e h
    refine r_iald B rfl (fun z => (hS _ z).1 2 (by decide)) hg7 dX5_film_23 ?_
    obtain ⟨y8, e9, h⟩ := nam_e h
    refine r_topi e9 ?_
    refine r_istore_n (L' := [(0, vr (some 0)), (1, vi p0), (2, vi y8)]) B dX5_film_24 rfl (by decide) rfl rfl rfl ?_
    refine r_iload_n (j := 2) B dX5_film_25 rfl rfl ?_
    refine r_bipush (v := 8) B dX5_film_26 (by decide) ?_
    refine r_ic_ne (tgt := 38) B dX5_film_28 (by decide) (fun cn10 => ?_) (fun cn10 => ?_)
    · have h := of cn10 h
      refine r_aload_n (j := 0) B dX5_film_38 rfl rfl ?_
      refine g5 (k := 3) B (vr (some 2)) rfl (fun z => by rw [(hS _ z).1 0 (by decide)]; rfl) rfl q1520 rfl (fun z => by rw [(hS _ z).2 _ (List.mem_of_getElem? (i := 1) rfl)]; rfl) dX5_film_39 ?_
      refine r_bipush (v := 43) B dX5_film_42 (by decide) ?_
      refine r_iload_n (j := 2) B dX5_film_44 rfl rfl ?_
      refine r_iadd B dX5_film_45 ?_
      refine r_iload_n (j := 1) B dX5_film_46 rfl rfl ?_
      obtain ⟨hg11, h⟩ := gd_e h
      obtain ⟨s12, e13, h⟩ := nam_e h
      refine r_iast B e13 rfl (fun z => (hS _ z).1 2 (by decide)) hg11 dX5_film_47 ?_
      refine r_aload_n (j := 0) B dX5_film_48 rfl rfl ?_
      refine g5 (k := 3) B (vr (some 2)) rfl (fun z => by rw [(hS _ z).1 0 (by decide)]; rfl) rfl q1520 rfl (fun z => by rw [(hS _ z).2 _ (List.mem_of_getElem? (i := 1) rfl)]; rfl) dX5_film_49 ?_
      refine r_iconst (v := 1) B dX5_film_52 (by decide) ?_
      refine r_dup2 B dX5_film_53 rfl rfl ?_
      obtain ⟨hg14, h⟩ := gd_e h
      refine r_iald B rfl (fun z => (hS _ z).1 2 (by decide)) hg14 dX5_film_54 ?_
      refine r_iconst (v := 1) B dX5_film_55 (by decide) ?_
      refine r_iadd B dX5_film_56 ?_
      obtain ⟨hg15, h⟩ := gd_e h
      obtain ⟨s16, e17, h⟩ := nam_e h
      refine r_iast B e17 rfl (fun z => (hS _ z).1 2 (by decide)) hg15 dX5_film_57 ?_
      refine r_aload_n (j := 0) B dX5_film_58 rfl rfl ?_
      refine r_iload_n (j := 2) B dX5_film_59 rfl rfl ?_
      refine r_iconst (v := 1) B dX5_film_60 (by decide) ?_
      refine r_iadd B dX5_film_61 ?_
      obtain ⟨r18, s19, hc20, h⟩ := bnd_e h
      refine r_callVv (As := [vi (y8 + (1 : Int32))]) (rest := []) B rfl rfl EX.same (c_X5_tell B.ge hS hc20) (cw_X5_tell rfl rfl) (fun z => RV.of 5 ((fun z => by rw [(hS _ z).1 0 (by decide)]; rfl) z) rfl rfl qs47) q1724 q1726 rfl dX5_film_62 ?_
      exact r_iret B dX5_film_65 h
    · have h := ot cn10 h
      refine r_aload_n (j := 0) B dX5_film_31 rfl rfl ?_
      refine r_bipush (v := -5) B dX5_film_32 (by decide) ?_
      obtain ⟨r21, s22, hc23, h⟩ := bnd_e h
      refine r_callVv (As := [vi (-5 : Int32)]) (rest := []) B rfl rfl EX.same (c_X5_tell B.ge hS hc23) (cw_X5_tell rfl rfl) (fun z => RV.of 5 ((fun z => by rw [(hS _ z).1 0 (by decide)]; rfl) z) rfl rfl qs47) q1724 q1726 rfl dX5_film_34 ?_
      exact r_iret B dX5_film_37 h
  · have h := ot cn6 h
    refine r_aload_n (j := 0) B dX5_film_12 rfl rfl ?_
    refine r_iconst (v := -1) B dX5_film_13 (by decide) ?_
    obtain ⟨r24, s25, hc26, h⟩ := bnd_e h
    refine r_callVv (As := [vi (-1 : Int32)]) (rest := []) B rfl rfl EX.same (c_X5_tell B.ge hS hc26) (cw_X5_tell rfl rfl) (fun z => RV.of 5 ((fun z => by rw [(hS _ z).1 0 (by decide)]; rfl) z) rfl rfl qs47) q1724 q1726 rfl dX5_film_14 ?_
    exact r_iret B dX5_film_17 h
set_option maxHeartbeats 4000000 in
theorem cw_X5_film {X : CX} {fr lo : Nat} (h1 : Nat.ble (2 + 1) fr = true) (h2 : Nat.ble (22 + 45) lo = true) : CW X fr lo yX5_film cX5_film 3 (some .int) 2 45 1 := ⟨q2139, q136, ⟨by decide +kernel, by decide +kernel, by decide +kernel⟩, Nat.le_of_ble_eq_true h1, Nat.le_of_ble_eq_true h2⟩

set_option maxHeartbeats 4000000 in
noncomputable def F_X5_burn (s : St)  : Option (Int32 × St) := nam (setI s 0 0 (0 : Int32)) fun s1 => gd (inb (1 : Int32) 5460) <| nam (si s1 2 (1 : Int32).toNatClampNeg) fun y4 => gd (inb (1 : Int32) 5460) <| nam (setI s1 2 (1 : Int32).toNatClampNeg (0 : Int32)) fun s7 => some (y4, s7)
set_option maxHeartbeats 4000000 in
theorem c_X5_burn {l : Launch} {E : EV} (hE : GE E) (hS : ∀ σ, eSk E σ → SkM σ) {s s' : St} {r : Int32}  (h : F_X5_burn  s  = some (r, s')) : CT l E yX5_burn cX5_burn 2 (some .int) 0 0 [vr (some 0)] s (some (vi r)) s' := by
  refine CT.start hE (by decide) rfl [(0, vr (some 0))] rfl (fun X hX B => ?_)
  skip
  have B : FX X E cX5_burn 2 (some .int) "RoseThrowModel" "burn" (sn s) (ss s) 0 0 := B
  unfold F_X5_burn at h
  refine r_aload_n (j := 0) B dX5_burn_0 rfl rfl ?_
  refine r_iconst (v := 0) B dX5_burn_1 (by decide) ?_
  obtain ⟨s1, e2, h⟩ := nam_e h
  refine pI5 (k := 0) B e2 rfl (fun z => by rw [(hS _ z).1 0 (by decide)]; rfl) rfl q1517 rfl rfl (fun _ _ _ => rfl) rfl dX5_burn_2 ?_
  refine r_aload_n (j := 0) B dX5_burn_5 rfl rfl ?_
  refine g5 (k := 3) B (vr (some 2)) rfl (fun z => by rw [(hS _ z).1 0 (by decide)]; rfl) rfl q1520 rfl (fun z => by rw [(hS _ z).2 _ (List.mem_of_getElem? (i := 1) rfl)]; rfl) dX5_burn_6 ?_
  refine r_iconst (v := 1) B dX5_burn_9 (by decide) ?_
  obtain ⟨hg3, h⟩ := gd_e h
  refine r_iald B rfl (fun z => (hS _ z).1 2 (by decide)) hg3 dX5_burn_10 ?_
  obtain ⟨y4, e5, h⟩ := nam_e h
  refine r_topi e5 ?_
  refine r_istore_n (L' := [(0, vr (some 0)), (1, vi y4)]) B dX5_burn_11 rfl (by decide) rfl rfl rfl ?_
  refine r_aload_n (j := 0) B dX5_burn_12 rfl rfl ?_
  refine g5 (k := 3) B (vr (some 2)) rfl (fun z => by rw [(hS _ z).1 0 (by decide)]; rfl) rfl q1520 rfl (fun z => by rw [(hS _ z).2 _ (List.mem_of_getElem? (i := 1) rfl)]; rfl) dX5_burn_13 ?_
  refine r_iconst (v := 1) B dX5_burn_16 (by decide) ?_
  refine r_iconst (v := 0) B dX5_burn_17 (by decide) ?_
  obtain ⟨hg6, h⟩ := gd_e h
  obtain ⟨s7, e8, h⟩ := nam_e h
  refine r_iast B e8 rfl (fun z => (hS _ z).1 2 (by decide)) hg6 dX5_burn_18 ?_
  refine r_iload_n (j := 1) B dX5_burn_19 rfl rfl ?_
  exact r_iret B dX5_burn_20 h
set_option maxHeartbeats 4000000 in
theorem cw_X5_burn {X : CX} {fr lo : Nat} (h1 : Nat.ble (0 + 1) fr = true) (h2 : Nat.ble (21 + 0) lo = true) : CW X fr lo yX5_burn cX5_burn 2 (some .int) 0 0 0 := ⟨q2143, q136, ⟨by decide +kernel, by decide +kernel, by decide +kernel⟩, Nat.le_of_ble_eq_true h1, Nat.le_of_ble_eq_true h2⟩

set_option maxHeartbeats 4000000 in
noncomputable def F_X5_fits_26 (k9 : St → Int32 → Int32 → Int32 → Option (Int32 × St)) : Nat → St → Int32 → Int32 → Int32 → Int32 → Int32 → Option (Int32 × St)
  | 0 => fun _ _ _ _ _ _ => none
  | n + 1 => fun s x1 x2 x3 x4 x5 => gd (inb (1 : Int32) 5460) <| if (si s 2 (1 : Int32).toNatClampNeg) ≤ x5 then (if x4 = 0 then (k9 s x1 x2 (x3 + (1))) else (if x2 = x1 then (some ((((10 : Int32) * ((x3 / (5 : Int32)) + (1 : Int32))) + (x3 - x3 / (5 : Int32) * (5 : Int32))), s)) else (k9 s x1 (x2 + (1)) (x3 + (1))))) else (if x4 = 0 then (F_X5_fits_26 k9 n s x1 x2 x3 (0 : Int32) (x5 + (1))) else (gd (inb ((43 : Int32) + x5) 5460) <| gd (inb (si s 2 ((43 : Int32) + x5).toNatClampNeg) 37) <| if (si s 22 (si s 2 ((43 : Int32) + x5).toNatClampNeg).toNatClampNeg) ≤ 0 then (F_X5_fits_26 k9 n s x1 x2 x3 (0 : Int32) (x5 + (1))) else (F_X5_fits_26 k9 n s x1 x2 x3 (1 : Int32) (x5 + (1)))))
set_option maxHeartbeats 4000000 in
theorem w_X5_fits_26 {X : CX} {E : EV} {a0 s' : St} {r : Int32} (B : FX X E cX5_fits 6 (some .int) "RoseThrowModel" "fits" (sn a0) (ss a0) 8 192) (hS : ∀ σ, eSk E σ → SkM σ) (k9 : St → Int32 → Int32 → Int32 → Option (Int32 × St)) (hk9 : ∀ (s : St) (x1 : Int32) (x2 : Int32) (x3 : Int32), k9 s x1 x2 x3 = some (r, s') → J X E (sn a0) (ss a0) 6 (QR X E a0 (some (vi r)) s') s 9 [(0, vr (some 0)), (1, vi x1), (2, vi x2), (3, vi x3)] []) : ∀ (n : Nat) (s : St) (x1 : Int32) (x2 : Int32) (x3 : Int32) (x4 : Int32) (x5 : Int32), F_X5_fits_26  k9 n s x1 x2 x3 x4 x5 = some (r, s') → J X E (sn a0) (ss a0) 6 (QR X E a0 (some (vi r)) s') s 26 [(0, vr (some 0)), (1, vi x1), (2, vi x2), (3, vi x3), (4, vi x4), (5, vi x5)] [] := by
  intro n
  induction n with
  | zero => intro s x1 x2 x3 x4 x5 h; exact absurd (show (none : Option (Int32 × St)) = _ from h) (by simp)
  | succ n ih =>
    intro s x1 x2 x3 x4 x5 h
    rw [F_X5_fits_26] at h
    refine r_iload (j := 5) B dX5_fits_26 rfl ?_
    refine r_aload_n (j := 0) B dX5_fits_28 rfl rfl ?_
    refine g5 (k := 3) B (vr (some 2)) rfl (fun z => by rw [(hS _ z).1 0 (by decide)]; rfl) rfl q1520 rfl (fun z => by rw [(hS _ z).2 _ (List.mem_of_getElem? (i := 1) rfl)]; rfl) dX5_fits_29 ?_
    refine r_iconst (v := 1) B dX5_fits_32 (by decide) ?_
    obtain ⟨hg1, h⟩ := gd_e h
    refine r_iald B rfl (fun z => (hS _ z).1 2 (by decide)) hg1 dX5_fits_33 ?_
    refine r_ic_ge (tgt := 73) B dX5_fits_34 (by decide) (fun cn2 => ?_) (fun cn2 => ?_)
    · have h := ot cn2 h
      refine r_iload (j := 4) B dX5_fits_73 rfl ?_
      refine r_if_eq (tgt := 99) B dX5_fits_75 (by decide) (fun cn3 => ?_) (fun cn3 => ?_)
      · have h := ot cn3 h
        refine r_iinc (j := 3) (v := (x3 + (1))) (L' := [(0, vr (some 0)), (1, vi x1), (2, vi x2), (3, vi (x3 + (1))), (4, vi x4), (5, vi x5)]) B dX5_fits_99 rfl rfl (by decide) rfl rfl rfl ?_
        refine r_goto (tgt := 9) B dX5_fits_102 (by decide) ?_
        refine r_pick [0, 1, 2, 3] (L' := [(0, vr (some 0)), (1, vi x1), (2, vi x2), (3, vi (x3 + (1)))]) rfl ?_
        exact hk9 s x1 x2 (x3 + (1)) h
      · have h := of cn3 h
        refine r_iload_n (j := 2) B dX5_fits_78 rfl rfl ?_
        refine r_iload_n (j := 1) B dX5_fits_79 rfl rfl ?_
        refine r_ic_ne (tgt := 96) B dX5_fits_80 (by decide) (fun cn4 => ?_) (fun cn4 => ?_)
        · have h := of cn4 h
          refine r_iinc (j := 2) (v := (x2 + (1))) (L' := [(0, vr (some 0)), (1, vi x1), (2, vi (x2 + (1))), (3, vi x3), (4, vi x4), (5, vi x5)]) B dX5_fits_96 rfl rfl (by decide) rfl rfl rfl ?_
          refine r_iinc (j := 3) (v := (x3 + (1))) (L' := [(0, vr (some 0)), (1, vi x1), (2, vi (x2 + (1))), (3, vi (x3 + (1))), (4, vi x4), (5, vi x5)]) B dX5_fits_99 rfl rfl (by decide) rfl rfl rfl ?_
          refine r_goto (tgt := 9) B dX5_fits_102 (by decide) ?_
          refine r_pick [0, 1, 2, 3] (L' := [(0, vr (some 0)), (1, vi x1), (2, vi (x2 + (1))), (3, vi (x3 + (1)))]) rfl ?_
          exact hk9 s x1 (x2 + (1)) (x3 + (1)) h
        · have h := ot cn4 h
          refine r_bipush (v := 10) B dX5_fits_83 (by decide) ?_
          refine r_iload_n (j := 3) B dX5_fits_85 rfl rfl ?_
          refine r_iconst (v := 5) B dX5_fits_86 (by decide) ?_
          refine r_idiv B dX5_fits_87 (by decide) ?_
          refine r_iconst (v := 1) B dX5_fits_88 (by decide) ?_
          refine r_iadd B dX5_fits_89 ?_
          refine r_imul B dX5_fits_90 ?_
          refine r_iload_n (j := 3) B dX5_fits_91 rfl rfl ?_
          refine r_iconst (v := 5) B dX5_fits_92 (by decide) ?_
          refine r_irem B dX5_fits_93 (by decide) ?_
          refine r_iadd B dX5_fits_94 ?_
          exact r_iret B dX5_fits_95 h
    · have h := of cn2 h
      refine r_iload (j := 4) B dX5_fits_37 rfl ?_
      refine r_if_eq (tgt := 64) B dX5_fits_39 (by decide) (fun cn5 => ?_) (fun cn5 => ?_)
      · have h := ot cn5 h
        refine r_iconst (v := 0) B dX5_fits_64 (by decide) ?_
        refine r_istore (L' := [(0, vr (some 0)), (1, vi x1), (2, vi x2), (3, vi x3), (4, vi (0 : Int32)), (5, vi x5)]) B dX5_fits_65 (by decide) rfl rfl rfl ?_
        refine r_iinc (j := 5) (v := (x5 + (1))) (L' := [(0, vr (some 0)), (1, vi x1), (2, vi x2), (3, vi x3), (4, vi (0 : Int32)), (5, vi (x5 + (1)))]) B dX5_fits_67 rfl rfl (by decide) rfl rfl rfl ?_
        refine r_goto (tgt := 26) B dX5_fits_70 (by decide) ?_
        exact ih s x1 x2 x3 (0 : Int32) (x5 + (1)) h
      · have h := of cn5 h
        refine r_aload_n (j := 0) B dX5_fits_42 rfl rfl ?_
        refine g5 (k := 42) B (vr (some 22)) rfl (fun z => by rw [(hS _ z).1 0 (by decide)]; rfl) rfl q1559 rfl (fun z => by rw [(hS _ z).2 _ (List.mem_of_getElem? (i := 21) rfl)]; rfl) dX5_fits_43 ?_
        refine r_aload_n (j := 0) B dX5_fits_46 rfl rfl ?_
        refine g5 (k := 3) B (vr (some 2)) rfl (fun z => by rw [(hS _ z).1 0 (by decide)]; rfl) rfl q1520 rfl (fun z => by rw [(hS _ z).2 _ (List.mem_of_getElem? (i := 1) rfl)]; rfl) dX5_fits_47 ?_
        refine r_bipush (v := 43) B dX5_fits_50 (by decide) ?_
        refine r_iload (j := 5) B dX5_fits_52 rfl ?_
        refine r_iadd B dX5_fits_54 ?_
        obtain ⟨hg6, h⟩ := gd_e h
        refine r_iald B rfl (fun z => (hS _ z).1 2 (by decide)) hg6 dX5_fits_55 ?_
        obtain ⟨hg7, h⟩ := gd_e h
        refine r_iald B rfl (fun z => (hS _ z).1 22 (by decide)) hg7 dX5_fits_56 ?_
        refine r_if_le (tgt := 64) B dX5_fits_57 (by decide) (fun cn8 => ?_) (fun cn8 => ?_)
        · have h := ot cn8 h
          refine r_iconst (v := 0) B dX5_fits_64 (by decide) ?_
          refine r_istore (L' := [(0, vr (some 0)), (1, vi x1), (2, vi x2), (3, vi x3), (4, vi (0 : Int32)), (5, vi x5)]) B dX5_fits_65 (by decide) rfl rfl rfl ?_
          refine r_iinc (j := 5) (v := (x5 + (1))) (L' := [(0, vr (some 0)), (1, vi x1), (2, vi x2), (3, vi x3), (4, vi (0 : Int32)), (5, vi (x5 + (1)))]) B dX5_fits_67 rfl rfl (by decide) rfl rfl rfl ?_
          refine r_goto (tgt := 26) B dX5_fits_70 (by decide) ?_
          exact ih s x1 x2 x3 (0 : Int32) (x5 + (1)) h
        · have h := of cn8 h
          refine r_iconst (v := 1) B dX5_fits_60 (by decide) ?_
          refine r_goto (tgt := 65) B dX5_fits_61 (by decide) ?_
          refine r_istore (L' := [(0, vr (some 0)), (1, vi x1), (2, vi x2), (3, vi x3), (4, vi (1 : Int32)), (5, vi x5)]) B dX5_fits_65 (by decide) rfl rfl rfl ?_
          refine r_iinc (j := 5) (v := (x5 + (1))) (L' := [(0, vr (some 0)), (1, vi x1), (2, vi x2), (3, vi x3), (4, vi (1 : Int32)), (5, vi (x5 + (1)))]) B dX5_fits_67 rfl rfl (by decide) rfl rfl rfl ?_
          refine r_goto (tgt := 26) B dX5_fits_70 (by decide) ?_
          exact ih s x1 x2 x3 (1 : Int32) (x5 + (1)) h
set_option maxHeartbeats 4000000 in
noncomputable def F_X5_fits_9 : Nat → St → Int32 → Int32 → Int32 → Option (Int32 × St)
  | 0 => fun _ _ _ _ => none
  | n + 1 => fun s x1 x2 x3 => if (25 : Int32) ≤ x3 then (if x1 = (-1 : Int32) then (some (x2, s)) else (some ((-1 : Int32), s))) else (bnd (F_X5_aimAt s x3) fun _ s4 => F_X5_fits_26 (F_X5_fits_9  n) FU s4 x1 x2 x3 (1 : Int32) (0 : Int32))
set_option maxHeartbeats 4000000 in
theorem w_X5_fits_9 {X : CX} {E : EV} {a0 s' : St} {r : Int32} (B : FX X E cX5_fits 6 (some .int) "RoseThrowModel" "fits" (sn a0) (ss a0) 8 192) (hS : ∀ σ, eSk E σ → SkM σ) : ∀ (n : Nat) (s : St) (x1 : Int32) (x2 : Int32) (x3 : Int32), F_X5_fits_9   n s x1 x2 x3 = some (r, s') → J X E (sn a0) (ss a0) 6 (QR X E a0 (some (vi r)) s') s 9 [(0, vr (some 0)), (1, vi x1), (2, vi x2), (3, vi x3)] [] := by
  intro n
  induction n with
  | zero => intro s x1 x2 x3 h; exact absurd (show (none : Option (Int32 × St)) = _ from h) (by simp)
  | succ n ih =>
    intro s x1 x2 x3 h
    rw [F_X5_fits_9] at h
    refine r_iload_n (j := 3) B dX5_fits_9 rfl rfl ?_
    refine r_bipush (v := 25) B dX5_fits_10 (by decide) ?_
    refine r_ic_ge (tgt := 105) B dX5_fits_12 (by decide) (fun cn1 => ?_) (fun cn1 => ?_)
    · have h := ot cn1 h
      refine r_iload_n (j := 1) B dX5_fits_105 rfl rfl ?_
      refine r_iconst (v := -1) B dX5_fits_106 (by decide) ?_
      refine r_ic_ne (tgt := 114) B dX5_fits_107 (by decide) (fun cn2 => ?_) (fun cn2 => ?_)
      · have h := of cn2 h
        refine r_iconst (v := -1) B dX5_fits_114 (by decide) ?_
        exact r_iret B dX5_fits_115 h
      · have h := ot cn2 h
        refine r_iload_n (j := 2) B dX5_fits_110 rfl rfl ?_
        refine r_goto (tgt := 115) B dX5_fits_111 (by decide) ?_
        exact r_iret B dX5_fits_115 h
    · have h := of cn1 h
      refine r_aload_n (j := 0) B dX5_fits_15 rfl rfl ?_
      refine r_iload_n (j := 3) B dX5_fits_16 rfl rfl ?_
      obtain ⟨r3, s4, hc5, h⟩ := bnd_e h
      refine r_callV0 (As := [vi x3]) (rest := []) B rfl rfl EX.same (c_X5_aimAt B.ge hS hc5) (cw_X5_aimAt rfl rfl) (fun z => RV.of 5 ((fun z => by rw [(hS _ z).1 0 (by decide)]; rfl) z) rfl rfl qs106) q2086 q2088 rfl dX5_fits_17 ?_
      refine r_iconst (v := 1) B dX5_fits_20 (by decide) ?_
      refine r_istore (L' := [(0, vr (some 0)), (1, vi x1), (2, vi x2), (3, vi x3), (4, vi (1 : Int32))]) B dX5_fits_21 (by decide) rfl rfl rfl ?_
      refine r_iconst (v := 0) B dX5_fits_23 (by decide) ?_
      refine r_istore (L' := [(0, vr (some 0)), (1, vi x1), (2, vi x2), (3, vi x3), (4, vi (1 : Int32)), (5, vi (0 : Int32))]) B dX5_fits_24 (by decide) rfl rfl rfl ?_
      exact w_X5_fits_26 B hS (F_X5_fits_9  n) ih FU s4 x1 x2 x3 (1 : Int32) (0 : Int32) h
set_option maxHeartbeats 4000000 in
noncomputable def F_X5_fits (s : St) (p0 : Int32) : Option (Int32 × St) := nam (setI s 0 0 (0 : Int32)) fun s1 => F_X5_fits_9 FU s1 p0 (0 : Int32) (0 : Int32)
set_option maxHeartbeats 4000000 in
theorem c_X5_fits {l : Launch} {E : EV} (hE : GE E) (hS : ∀ σ, eSk E σ → SkM σ) {s s' : St} {r : Int32} {p0 : Int32} (h : F_X5_fits  s p0 = some (r, s')) : CT l E yX5_fits cX5_fits 6 (some .int) 8 192 [vr (some 0), vi p0] s (some (vi r)) s' := by
  refine CT.start hE (by decide) rfl [(0, vr (some 0)), (1, vi p0)] rfl (fun X hX B => ?_)
  skip
  have B : FX X E cX5_fits 6 (some .int) "RoseThrowModel" "fits" (sn s) (ss s) 8 192 := B
  unfold F_X5_fits at h
  refine r_aload_n (j := 0) B dX5_fits_0 rfl rfl ?_
  refine r_iconst (v := 0) B dX5_fits_1 (by decide) ?_
  obtain ⟨s1, e2, h⟩ := nam_e h
  refine pI5 (k := 0) B e2 rfl (fun z => by rw [(hS _ z).1 0 (by decide)]; rfl) rfl q1517 rfl rfl (fun _ _ _ => rfl) rfl dX5_fits_2 ?_
  refine r_iconst (v := 0) B dX5_fits_5 (by decide) ?_
  refine r_istore_n (L' := [(0, vr (some 0)), (1, vi p0), (2, vi (0 : Int32))]) B dX5_fits_6 rfl (by decide) rfl rfl rfl ?_
  refine r_iconst (v := 0) B dX5_fits_7 (by decide) ?_
  refine r_istore_n (L' := [(0, vr (some 0)), (1, vi p0), (2, vi (0 : Int32)), (3, vi (0 : Int32))]) B dX5_fits_8 rfl (by decide) rfl rfl rfl ?_
  exact w_X5_fits_9 B hS FU s1 p0 (0 : Int32) (0 : Int32) h
set_option maxHeartbeats 4000000 in
theorem cw_X5_fits {X : CX} {fr lo : Nat} (h1 : Nat.ble (8 + 1) fr = true) (h2 : Nat.ble (25 + 192) lo = true) : CW X fr lo yX5_fits cX5_fits 6 (some .int) 8 192 1 := ⟨q2147, q136, ⟨by decide +kernel, by decide +kernel, by decide +kernel⟩, Nat.le_of_ble_eq_true h1, Nat.le_of_ble_eq_true h2⟩

set_option maxHeartbeats 4000000 in
noncomputable def F_X5_remember_76 (s : St) (x1 : Int32) : Option (Unit × St) := bnd (F_X5_keepCells s ((6 : Int32) * (si s 0 8))) fun _ s2 => gd (inb (si s2 0 8) 16) <| nam (setI s2 6 (si s2 0 8).toNatClampNeg x1) fun s5 => nam (setI s5 0 8 ((si s5 0 8) + (1 : Int32))) fun s7 => some ((), s7)
set_option maxHeartbeats 4000000 in
theorem w_X5_remember_76 {X : CX} {E : EV} {a0 s' : St} {r : Unit} (B : FX X E cX5_remember 3 none "RoseThrowModel" "remember" (sn a0) (ss a0) 2 44) (hS : ∀ σ, eSk E σ → SkM σ) (s : St) (x1 : Int32) (h : F_X5_remember_76   s x1 = some (r, s')) : J X E (sn a0) (ss a0) 3 (QR X E a0 none s') s 76 [(0, vr (some 0)), (1, vi x1)] [] := by
  unfold F_X5_remember_76 at h
  refine r_aload_n (j := 0) B dX5_remember_76 rfl rfl ?_
  refine r_bipush (v := 6) B dX5_remember_77 (by decide) ?_
  refine r_aload_n (j := 0) B dX5_remember_79 rfl rfl ?_
  refine g5 (k := 8) B (vi (si s 0 8)) rfl (fun z => by rw [(hS _ z).1 0 (by decide)]; rfl) rfl q1525 rfl (fun _ => rfl) dX5_remember_80 ?_
  refine r_imul B dX5_remember_83 ?_
  obtain ⟨r1, s2, hc3, h⟩ := bnd_e h
  refine r_callV0 (As := [vi ((6 : Int32) * (si s 0 8))]) (rest := []) B rfl rfl EX.same (c_X5_keepCells B.ge hS hc3) (cw_X5_keepCells rfl rfl) (fun z => RV.of 5 ((fun z => by rw [(hS _ z).1 0 (by decide)]; rfl) z) rfl rfl qs103) q2070 q2072 rfl dX5_remember_84 ?_
  refine r_aload_n (j := 0) B dX5_remember_87 rfl rfl ?_
  refine g5 (k := 7) B (vr (some 6)) rfl (fun z => by rw [(hS _ z).1 0 (by decide)]; rfl) rfl q1524 rfl (fun z => by rw [(hS _ z).2 _ (List.mem_of_getElem? (i := 5) rfl)]; rfl) dX5_remember_88 ?_
  refine r_aload_n (j := 0) B dX5_remember_91 rfl rfl ?_
  refine g5 (k := 8) B (vi (si s2 0 8)) rfl (fun z => by rw [(hS _ z).1 0 (by decide)]; rfl) rfl q1525 rfl (fun _ => rfl) dX5_remember_92 ?_
  refine r_iload_n (j := 1) B dX5_remember_95 rfl rfl ?_
  obtain ⟨hg4, h⟩ := gd_e h
  obtain ⟨s5, e6, h⟩ := nam_e h
  refine r_iast B e6 rfl (fun z => (hS _ z).1 6 (by decide)) hg4 dX5_remember_96 ?_
  refine r_aload_n (j := 0) B dX5_remember_97 rfl rfl ?_
  refine r_dup B dX5_remember_98 rfl ?_
  refine g5 (k := 8) B (vi (si s5 0 8)) rfl (fun z => by rw [(hS _ z).1 0 (by decide)]; rfl) rfl q1525 rfl (fun _ => rfl) dX5_remember_99 ?_
  refine r_iconst (v := 1) B dX5_remember_102 (by decide) ?_
  refine r_iadd B dX5_remember_103 ?_
  obtain ⟨s7, e8, h⟩ := nam_e h
  refine pI5 (k := 8) B e8 rfl (fun z => by rw [(hS _ z).1 0 (by decide)]; rfl) rfl q1525 rfl rfl (fun _ _ _ => rfl) rfl dX5_remember_104 ?_
  exact r_vret B dX5_remember_107 h
set_option maxHeartbeats 4000000 in
noncomputable def F_X5_remember_40 : Nat → St → Int32 → Int32 → Option (Unit × St)
  | 0 => fun _ _ _ => none
  | n + 1 => fun s x1 x2 => if (15 : Int32) ≤ x2 then (nam (setI s 0 8 ((si s 0 8) - (1 : Int32))) fun s2 => F_X5_remember_76 s2 x1) else (gd (inb (x2 + (1 : Int32)) 16) <| gd (inb x2 16) <| nam (setI s 6 x2.toNatClampNeg (si s 6 (x2 + (1 : Int32)).toNatClampNeg)) fun s6 => F_X5_remember_40  n s6 x1 (x2 + (1)))
set_option maxHeartbeats 4000000 in
theorem w_X5_remember_40 {X : CX} {E : EV} {a0 s' : St} {r : Unit} (B : FX X E cX5_remember 3 none "RoseThrowModel" "remember" (sn a0) (ss a0) 2 44) (hS : ∀ σ, eSk E σ → SkM σ) : ∀ (n : Nat) (s : St) (x1 : Int32) (x2 : Int32), F_X5_remember_40   n s x1 x2 = some (r, s') → J X E (sn a0) (ss a0) 3 (QR X E a0 none s') s 40 [(0, vr (some 0)), (1, vi x1), (2, vi x2)] [] := by
  intro n
  induction n with
  | zero => intro s x1 x2 h; exact absurd (show (none : Option (Unit × St)) = _ from h) (by simp)
  | succ n ih =>
    intro s x1 x2 h
    rw [F_X5_remember_40] at h
    refine r_iload_n (j := 2) B dX5_remember_40 rfl rfl ?_
    refine r_bipush (v := 15) B dX5_remember_41 (by decide) ?_
    refine r_ic_ge (tgt := 66) B dX5_remember_43 (by decide) (fun cn1 => ?_) (fun cn1 => ?_)
    · have h := ot cn1 h
      refine r_aload_n (j := 0) B dX5_remember_66 rfl rfl ?_
      refine r_dup B dX5_remember_67 rfl ?_
      refine g5 (k := 8) B (vi (si s 0 8)) rfl (fun z => by rw [(hS _ z).1 0 (by decide)]; rfl) rfl q1525 rfl (fun _ => rfl) dX5_remember_68 ?_
      refine r_iconst (v := 1) B dX5_remember_71 (by decide) ?_
      refine r_isub B dX5_remember_72 ?_
      obtain ⟨s2, e3, h⟩ := nam_e h
      refine pI5 (k := 8) B e3 rfl (fun z => by rw [(hS _ z).1 0 (by decide)]; rfl) rfl q1525 rfl rfl (fun _ _ _ => rfl) rfl dX5_remember_73 ?_
      refine r_pick [0, 1] (L' := [(0, vr (some 0)), (1, vi x1)]) rfl ?_
      exact w_X5_remember_76 B hS s2 x1 h
    · have h := of cn1 h
      refine r_aload_n (j := 0) B dX5_remember_46 rfl rfl ?_
      refine g5 (k := 7) B (vr (some 6)) rfl (fun z => by rw [(hS _ z).1 0 (by decide)]; rfl) rfl q1524 rfl (fun z => by rw [(hS _ z).2 _ (List.mem_of_getElem? (i := 5) rfl)]; rfl) dX5_remember_47 ?_
      refine r_iload_n (j := 2) B dX5_remember_50 rfl rfl ?_
      refine r_aload_n (j := 0) B dX5_remember_51 rfl rfl ?_
      refine g5 (k := 7) B (vr (some 6)) rfl (fun z => by rw [(hS _ z).1 0 (by decide)]; rfl) rfl q1524 rfl (fun z => by rw [(hS _ z).2 _ (List.mem_of_getElem? (i := 5) rfl)]; rfl) dX5_remember_52 ?_
      refine r_iload_n (j := 2) B dX5_remember_55 rfl rfl ?_
      refine r_iconst (v := 1) B dX5_remember_56 (by decide) ?_
      refine r_iadd B dX5_remember_57 ?_
      obtain ⟨hg4, h⟩ := gd_e h
      refine r_iald B rfl (fun z => (hS _ z).1 6 (by decide)) hg4 dX5_remember_58 ?_
      obtain ⟨hg5, h⟩ := gd_e h
      obtain ⟨s6, e7, h⟩ := nam_e h
      refine r_iast B e7 rfl (fun z => (hS _ z).1 6 (by decide)) hg5 dX5_remember_59 ?_
      refine r_iinc (j := 2) (v := (x2 + (1))) (L' := [(0, vr (some 0)), (1, vi x1), (2, vi (x2 + (1)))]) B dX5_remember_60 rfl rfl (by decide) rfl rfl rfl ?_
      refine r_goto (tgt := 40) B dX5_remember_63 (by decide) ?_
      exact ih s6 x1 (x2 + (1)) h
set_option maxHeartbeats 4000000 in
noncomputable def F_X5_remember_11 : Nat → St → Int32 → Int32 → Option (Unit × St)
  | 0 => fun _ _ _ => none
  | n + 1 => fun s x1 x2 => if (90 : Int32) ≤ x2 then (F_X5_remember_40 FU s x1 (0 : Int32)) else (gd (inb (x2 + (6 : Int32)) 108) <| gd (inb x2 108) <| nam (setI s 5 x2.toNatClampNeg (si s 5 (x2 + (6 : Int32)).toNatClampNeg)) fun s4 => F_X5_remember_11  n s4 x1 (x2 + (1)))
set_option maxHeartbeats 4000000 in
theorem w_X5_remember_11 {X : CX} {E : EV} {a0 s' : St} {r : Unit} (B : FX X E cX5_remember 3 none "RoseThrowModel" "remember" (sn a0) (ss a0) 2 44) (hS : ∀ σ, eSk E σ → SkM σ) : ∀ (n : Nat) (s : St) (x1 : Int32) (x2 : Int32), F_X5_remember_11   n s x1 x2 = some (r, s') → J X E (sn a0) (ss a0) 3 (QR X E a0 none s') s 11 [(0, vr (some 0)), (1, vi x1), (2, vi x2)] [] := by
  intro n
  induction n with
  | zero => intro s x1 x2 h; exact absurd (show (none : Option (Unit × St)) = _ from h) (by simp)
  | succ n ih =>
    intro s x1 x2 h
    rw [F_X5_remember_11] at h
    refine r_iload_n (j := 2) B dX5_remember_11 rfl rfl ?_
    refine r_bipush (v := 90) B dX5_remember_12 (by decide) ?_
    refine r_ic_ge (tgt := 38) B dX5_remember_14 (by decide) (fun cn1 => ?_) (fun cn1 => ?_)
    · have h := ot cn1 h
      refine r_iconst (v := 0) B dX5_remember_38 (by decide) ?_
      refine r_istore_n (L' := [(0, vr (some 0)), (1, vi x1), (2, vi (0 : Int32))]) B dX5_remember_39 rfl (by decide) rfl rfl rfl ?_
      exact w_X5_remember_40 B hS FU s x1 (0 : Int32) h
    · have h := of cn1 h
      refine r_aload_n (j := 0) B dX5_remember_17 rfl rfl ?_
      refine g5 (k := 6) B (vr (some 5)) rfl (fun z => by rw [(hS _ z).1 0 (by decide)]; rfl) rfl q1523 rfl (fun z => by rw [(hS _ z).2 _ (List.mem_of_getElem? (i := 4) rfl)]; rfl) dX5_remember_18 ?_
      refine r_iload_n (j := 2) B dX5_remember_21 rfl rfl ?_
      refine r_aload_n (j := 0) B dX5_remember_22 rfl rfl ?_
      refine g5 (k := 6) B (vr (some 5)) rfl (fun z => by rw [(hS _ z).1 0 (by decide)]; rfl) rfl q1523 rfl (fun z => by rw [(hS _ z).2 _ (List.mem_of_getElem? (i := 4) rfl)]; rfl) dX5_remember_23 ?_
      refine r_iload_n (j := 2) B dX5_remember_26 rfl rfl ?_
      refine r_bipush (v := 6) B dX5_remember_27 (by decide) ?_
      refine r_iadd B dX5_remember_29 ?_
      obtain ⟨hg2, h⟩ := gd_e h
      refine r_iald B rfl (fun z => (hS _ z).1 5 (by decide)) hg2 dX5_remember_30 ?_
      obtain ⟨hg3, h⟩ := gd_e h
      obtain ⟨s4, e5, h⟩ := nam_e h
      refine r_iast B e5 rfl (fun z => (hS _ z).1 5 (by decide)) hg3 dX5_remember_31 ?_
      refine r_iinc (j := 2) (v := (x2 + (1))) (L' := [(0, vr (some 0)), (1, vi x1), (2, vi (x2 + (1)))]) B dX5_remember_32 rfl rfl (by decide) rfl rfl rfl ?_
      refine r_goto (tgt := 11) B dX5_remember_35 (by decide) ?_
      exact ih s4 x1 (x2 + (1)) h
set_option maxHeartbeats 4000000 in
noncomputable def F_X5_remember (s : St) (p0 : Int32) : Option (Unit × St) := if (si s 0 8) = (16 : Int32) then (F_X5_remember_11 FU s p0 (0 : Int32)) else (F_X5_remember_76 s p0)
set_option maxHeartbeats 4000000 in
theorem c_X5_remember {l : Launch} {E : EV} (hE : GE E) (hS : ∀ σ, eSk E σ → SkM σ) {s s' : St} {r : Unit} {p0 : Int32} (h : F_X5_remember  s p0 = some (r, s')) : CT l E yX5_remember cX5_remember 3 none 2 44 [vr (some 0), vi p0] s none s' := by
  refine CT.start hE (by decide) rfl [(0, vr (some 0)), (1, vi p0)] rfl (fun X hX B => ?_)
  skip
  have B : FX X E cX5_remember 3 none "RoseThrowModel" "remember" (sn s) (ss s) 2 44 := B
  unfold F_X5_remember at h
  refine r_aload_n (j := 0) B dX5_remember_0 rfl rfl ?_
  refine g5 (k := 8) B (vi (si s 0 8)) rfl (fun z => by rw [(hS _ z).1 0 (by decide)]; rfl) rfl q1525 rfl (fun _ => rfl) dX5_remember_1 ?_
  refine r_bipush (v := 16) B dX5_remember_4 (by decide) ?_
  refine r_ic_ne (tgt := 76) B dX5_remember_6 (by decide) (fun cn1 => ?_) (fun cn1 => ?_)
  · have h := of cn1 h
    exact w_X5_remember_76 B hS s p0 h
  · have h := ot cn1 h
    refine r_iconst (v := 0) B dX5_remember_9 (by decide) ?_
    refine r_istore_n (L' := [(0, vr (some 0)), (1, vi p0), (2, vi (0 : Int32))]) B dX5_remember_10 rfl (by decide) rfl rfl rfl ?_
    exact w_X5_remember_11 B hS FU s p0 (0 : Int32) h
set_option maxHeartbeats 4000000 in
theorem cw_X5_remember {X : CX} {fr lo : Nat} (h1 : Nat.ble (2 + 1) fr = true) (h2 : Nat.ble (22 + 44) lo = true) : CW X fr lo yX5_remember cX5_remember 3 none 2 44 1 := ⟨q2159, q136, ⟨by decide +kernel, by decide +kernel, by decide +kernel⟩, Nat.le_of_ble_eq_true h1, Nat.le_of_ble_eq_true h2⟩

set_option maxHeartbeats 4000000 in
noncomputable def F_X5_goNow (s : St) (p0 : Int32) (p1 : Int32) : Option (Int32 × St) := bnd (F_X5_isCell s p1) fun r1 s2 => if r1 = 0 then (some ((-1 : Int32), s2)) else (bnd (F_X5_isCatcher s2 p0) fun r5 s6 => if r5 = 0 then (some ((-2 : Int32), s6)) else (bnd (F_X5_isFree s6 p1) fun r9 s10 => if r9 = 0 then (some ((-3 : Int32), s10)) else (bnd (F_X5_isBarred s10 p0 p1) fun r13 s14 => if r13 = 0 then (bnd (F_X5_remember s14 (0 : Int32)) fun _ s18 => bnd (F_X5_ofCatcher s18 p0 (3 : Int32)) fun r20 s21 => bnd (F_X5_setCell s21 p0 p1) fun _ s24 => some (r20, s24)) else (some ((-3 : Int32), s14)))))
set_option maxHeartbeats 4000000 in
theorem c_X5_goNow {l : Launch} {E : EV} (hE : GE E) (hS : ∀ σ, eSk E σ → SkM σ) {s s' : St} {r : Int32} {p0 : Int32} {p1 : Int32} (h : F_X5_goNow  s p0 p1 = some (r, s')) : CT l E yX5_goNow cX5_goNow 4 (some .int) 7 166 [vr (some 0), vi p0, vi p1] s (some (vi r)) s' := by
  refine CT.start hE (by decide) rfl [(0, vr (some 0)), (1, vi p0), (2, vi p1)] rfl (fun X hX B => ?_)
  skip
  have B : FX X E cX5_goNow 4 (some .int) "RoseThrowModel" "goNow" (sn s) (ss s) 7 166 := B
  unfold F_X5_goNow at h
  refine r_iload_n (j := 2) B dX5_goNow_0 rfl rfl ?_
  obtain ⟨r1, s2, hc3, h⟩ := bnd_e h
  refine r_callSv (As := [vi p1]) (rest := []) B rfl EX.same (c_X5_isCell B.ge hS hc3) (cw_X5_isCell rfl rfl) q1755 q1756 rfl dX5_goNow_1 ?_
  refine r_if_ne (tgt := 9) B dX5_goNow_4 (by decide) (fun cn4 => ?_) (fun cn4 => ?_)
  · have h := of cn4 h
    refine r_aload_n (j := 0) B dX5_goNow_9 rfl rfl ?_
    refine r_iload_n (j := 1) B dX5_goNow_10 rfl rfl ?_
    obtain ⟨r5, s6, hc7, h⟩ := bnd_e h
    refine r_callVv (As := [vi p0]) (rest := []) B rfl rfl EX.same (c_X5_isCatcher B.ge hS hc7) (cw_X5_isCatcher rfl rfl) (fun z => RV.of 5 ((fun z => by rw [(hS _ z).1 0 (by decide)]; rfl) z) rfl rfl qs60) q1799 q1801 rfl dX5_goNow_11 ?_
    refine r_if_ne (tgt := 20) B dX5_goNow_14 (by decide) (fun cn8 => ?_) (fun cn8 => ?_)
    · have h := of cn8 h
      refine r_aload_n (j := 0) B dX5_goNow_20 rfl rfl ?_
      refine r_iload_n (j := 2) B dX5_goNow_21 rfl rfl ?_
      obtain ⟨r9, s10, hc11, h⟩ := bnd_e h
      refine r_callVv (As := [vi p1]) (rest := []) B rfl rfl EX.same (c_X5_isFree B.ge hS hc11) (cw_X5_isFree rfl rfl) (fun z => RV.of 5 ((fun z => by rw [(hS _ z).1 0 (by decide)]; rfl) z) rfl rfl qs51) q1762 q1764 rfl dX5_goNow_22 ?_
      refine r_if_eq (tgt := 37) B dX5_goNow_25 (by decide) (fun cn12 => ?_) (fun cn12 => ?_)
      · have h := ot cn12 h
        refine r_bipush (v := -3) B dX5_goNow_37 (by decide) ?_
        exact r_iret B dX5_goNow_39 h
      · have h := of cn12 h
        refine r_aload_n (j := 0) B dX5_goNow_28 rfl rfl ?_
        refine r_iload_n (j := 1) B dX5_goNow_29 rfl rfl ?_
        refine r_iload_n (j := 2) B dX5_goNow_30 rfl rfl ?_
        obtain ⟨r13, s14, hc15, h⟩ := bnd_e h
        refine r_callVv (As := [vi p0, vi p1]) (rest := []) B rfl rfl EX.same (c_X5_isBarred B.ge hS hc15) (cw_X5_isBarred rfl rfl) (fun z => RV.of 5 ((fun z => by rw [(hS _ z).1 0 (by decide)]; rfl) z) rfl rfl qs90) q1996 q1998 rfl dX5_goNow_31 ?_
        refine r_if_eq (tgt := 40) B dX5_goNow_34 (by decide) (fun cn16 => ?_) (fun cn16 => ?_)
        · have h := ot cn16 h
          refine r_aload_n (j := 0) B dX5_goNow_40 rfl rfl ?_
          refine r_iconst (v := 0) B dX5_goNow_41 (by decide) ?_
          obtain ⟨r17, s18, hc19, h⟩ := bnd_e h
          refine r_callV0 (As := [vi (0 : Int32)]) (rest := []) B rfl rfl EX.same (c_X5_remember B.ge hS hc19) (cw_X5_remember rfl rfl) (fun z => RV.of 5 ((fun z => by rw [(hS _ z).1 0 (by decide)]; rfl) z) rfl rfl qs112) q2156 q2158 rfl dX5_goNow_42 ?_
          refine r_aload_n (j := 0) B dX5_goNow_45 rfl rfl ?_
          refine r_iload_n (j := 1) B dX5_goNow_46 rfl rfl ?_
          refine r_iconst (v := 3) B dX5_goNow_47 (by decide) ?_
          obtain ⟨r20, s21, hc22, h⟩ := bnd_e h
          refine r_callVv (As := [vi p0, vi (3 : Int32)]) (rest := []) B rfl rfl EX.same (c_X5_ofCatcher B.ge hS hc22) (cw_X5_ofCatcher rfl rfl) (fun z => RV.of 5 ((fun z => by rw [(hS _ z).1 0 (by decide)]; rfl) z) rfl rfl qs52) q1766 q1768 rfl dX5_goNow_48 ?_
          refine r_istore_n (L' := [(0, vr (some 0)), (1, vi p0), (2, vi p1), (3, vi r20)]) B dX5_goNow_51 rfl (by decide) rfl rfl rfl ?_
          refine r_aload_n (j := 0) B dX5_goNow_52 rfl rfl ?_
          refine r_iload_n (j := 1) B dX5_goNow_53 rfl rfl ?_
          refine r_iload_n (j := 2) B dX5_goNow_54 rfl rfl ?_
          obtain ⟨r23, s24, hc25, h⟩ := bnd_e h
          refine r_callV0 (As := [vi p0, vi p1]) (rest := []) B rfl rfl EX.same (c_X5_setCell B.ge hS hc25) (cw_X5_setCell rfl rfl) (fun z => RV.of 5 ((fun z => by rw [(hS _ z).1 0 (by decide)]; rfl) z) rfl rfl qs49) q1732 q1734 rfl dX5_goNow_55 ?_
          refine r_iload_n (j := 3) B dX5_goNow_58 rfl rfl ?_
          exact r_iret B dX5_goNow_59 h
        · have h := of cn16 h
          refine r_bipush (v := -3) B dX5_goNow_37 (by decide) ?_
          exact r_iret B dX5_goNow_39 h
    · have h := ot cn8 h
      refine r_bipush (v := -2) B dX5_goNow_17 (by decide) ?_
      exact r_iret B dX5_goNow_19 h
  · have h := ot cn4 h
    refine r_iconst (v := -1) B dX5_goNow_7 (by decide) ?_
    exact r_iret B dX5_goNow_8 h
set_option maxHeartbeats 4000000 in
theorem cw_X5_goNow {X : CX} {fr lo : Nat} (h1 : Nat.ble (7 + 1) fr = true) (h2 : Nat.ble (23 + 166) lo = true) : CW X fr lo yX5_goNow cX5_goNow 4 (some .int) 7 166 2 := ⟨q2155, q136, ⟨by decide +kernel, by decide +kernel, by decide +kernel⟩, Nat.le_of_ble_eq_true h1, Nat.le_of_ble_eq_true h2⟩

set_option maxHeartbeats 4000000 in
noncomputable def F_X5_go (s : St) (p0 : Int32) (p1 : Int32) : Option (Int32 × St) := nam (setI s 0 0 (0 : Int32)) fun s1 => bnd (F_X5_goNow s1 p0 p1) fun r3 s4 => bnd (F_X5_tell s4 r3) fun r6 s7 => some (r6, s7)
set_option maxHeartbeats 4000000 in
theorem c_X5_go {l : Launch} {E : EV} (hE : GE E) (hS : ∀ σ, eSk E σ → SkM σ) {s s' : St} {r : Int32} {p0 : Int32} {p1 : Int32} (h : F_X5_go  s p0 p1 = some (r, s')) : CT l E yX5_go cX5_go 3 (some .int) 8 189 [vr (some 0), vi p0, vi p1] s (some (vi r)) s' := by
  refine CT.start hE (by decide) rfl [(0, vr (some 0)), (1, vi p0), (2, vi p1)] rfl (fun X hX B => ?_)
  skip
  have B : FX X E cX5_go 3 (some .int) "RoseThrowModel" "go" (sn s) (ss s) 8 189 := B
  unfold F_X5_go at h
  refine r_aload_n (j := 0) B dX5_go_0 rfl rfl ?_
  refine r_iconst (v := 0) B dX5_go_1 (by decide) ?_
  obtain ⟨s1, e2, h⟩ := nam_e h
  refine pI5 (k := 0) B e2 rfl (fun z => by rw [(hS _ z).1 0 (by decide)]; rfl) rfl q1517 rfl rfl (fun _ _ _ => rfl) rfl dX5_go_2 ?_
  refine r_aload_n (j := 0) B dX5_go_5 rfl rfl ?_
  refine r_aload_n (j := 0) B dX5_go_6 rfl rfl ?_
  refine r_iload_n (j := 1) B dX5_go_7 rfl rfl ?_
  refine r_iload_n (j := 2) B dX5_go_8 rfl rfl ?_
  obtain ⟨r3, s4, hc5, h⟩ := bnd_e h
  refine r_callVv (As := [vi p0, vi p1]) (rest := [vr (some 0)]) B rfl rfl EX.same (c_X5_goNow B.ge hS hc5) (cw_X5_goNow rfl rfl) (fun z => RV.of 5 ((fun z => by rw [(hS _ z).1 0 (by decide)]; rfl) z) rfl rfl qs111) q2152 q2154 rfl dX5_go_9 ?_
  obtain ⟨r6, s7, hc8, h⟩ := bnd_e h
  refine r_callVv (As := [vi r3]) (rest := []) B rfl rfl EX.same (c_X5_tell B.ge hS hc8) (cw_X5_tell rfl rfl) (fun z => RV.of 5 ((fun z => by rw [(hS _ z).1 0 (by decide)]; rfl) z) rfl rfl qs47) q1724 q1726 rfl dX5_go_12 ?_
  exact r_iret B dX5_go_15 h
set_option maxHeartbeats 4000000 in
theorem cw_X5_go {X : CX} {fr lo : Nat} (h1 : Nat.ble (8 + 1) fr = true) (h2 : Nat.ble (22 + 189) lo = true) : CW X fr lo yX5_go cX5_go 3 (some .int) 8 189 2 := ⟨q2151, q136, ⟨by decide +kernel, by decide +kernel, by decide +kernel⟩, Nat.le_of_ble_eq_true h1, Nat.le_of_ble_eq_true h2⟩

set_option maxHeartbeats 4000000 in
noncomputable def F_X5_cannotBelieve (s : St) (p0 : Int32) (p1 : Int32) : Option (Int32 × St) := bnd (F_X5_in s ((p1).toInt64) (-1 : Int64) (35 : Int64)) fun r1 s2 => if r1 = 0 then (some ((-1 : Int32), s2)) else (bnd (F_X5_isCatcher s2 p0) fun r5 s6 => if r5 = 0 then (some ((-2 : Int32), s6)) else (some ((0 : Int32), s6)))
set_option maxHeartbeats 4000000 in
theorem c_X5_cannotBelieve {l : Launch} {E : EV} (hE : GE E) (hS : ∀ σ, eSk E σ → SkM σ) {s s' : St} {r : Int32} {p0 : Int32} {p1 : Int32} (h : F_X5_cannotBelieve  s p0 p1 = some (r, s')) : CT l E yX5_cannotBelieve cX5_cannotBelieve 3 (some .int) 2 46 [vr (some 0), vi p0, vi p1] s (some (vi r)) s' := by
  refine CT.start hE (by decide) rfl [(0, vr (some 0)), (1, vi p0), (2, vi p1)] rfl (fun X hX B => ?_)
  skip
  have B : FX X E cX5_cannotBelieve 3 (some .int) "RoseThrowModel" "cannotBelieve" (sn s) (ss s) 2 46 := B
  unfold F_X5_cannotBelieve at h
  refine r_iload_n (j := 2) B dX5_cannotBelieve_0 rfl rfl ?_
  refine r_i2l B dX5_cannotBelieve_1 ?_
  refine r_ldc2 B dX5_cannotBelieve_2 q1782 ?_
  refine r_ldc2 B dX5_cannotBelieve_5 q1758 ?_
  obtain ⟨r1, s2, hc3, h⟩ := bnd_e h
  refine r_callSv (As := [vl ((p1).toInt64), vl (-1 : Int64), vl (35 : Int64)]) (rest := []) B rfl EX.same (c_X5_in B.ge hS hc3) (cw_X5_in rfl rfl) q1740 q1741 rfl dX5_cannotBelieve_8 ?_
  refine r_if_ne (tgt := 18) B dX5_cannotBelieve_11 (by decide) (fun cn4 => ?_) (fun cn4 => ?_)
  · have h := of cn4 h
    refine r_aload_n (j := 0) B dX5_cannotBelieve_18 rfl rfl ?_
    refine r_iload_n (j := 1) B dX5_cannotBelieve_19 rfl rfl ?_
    obtain ⟨r5, s6, hc7, h⟩ := bnd_e h
    refine r_callVv (As := [vi p0]) (rest := []) B rfl rfl EX.same (c_X5_isCatcher B.ge hS hc7) (cw_X5_isCatcher rfl rfl) (fun z => RV.of 5 ((fun z => by rw [(hS _ z).1 0 (by decide)]; rfl) z) rfl rfl qs60) q1799 q1801 rfl dX5_cannotBelieve_20 ?_
    refine r_if_eq (tgt := 30) B dX5_cannotBelieve_23 (by decide) (fun cn8 => ?_) (fun cn8 => ?_)
    · have h := ot cn8 h
      refine r_bipush (v := -2) B dX5_cannotBelieve_30 (by decide) ?_
      exact r_iret B dX5_cannotBelieve_32 h
    · have h := of cn8 h
      refine r_iconst (v := 0) B dX5_cannotBelieve_26 (by decide) ?_
      refine r_goto (tgt := 32) B dX5_cannotBelieve_27 (by decide) ?_
      exact r_iret B dX5_cannotBelieve_32 h
  · have h := ot cn4 h
    refine r_iconst (v := -1) B dX5_cannotBelieve_14 (by decide) ?_
    refine r_goto (tgt := 32) B dX5_cannotBelieve_15 (by decide) ?_
    exact r_iret B dX5_cannotBelieve_32 h
set_option maxHeartbeats 4000000 in
theorem cw_X5_cannotBelieve {X : CX} {fr lo : Nat} (h1 : Nat.ble (2 + 1) fr = true) (h2 : Nat.ble (22 + 46) lo = true) : CW X fr lo yX5_cannotBelieve cX5_cannotBelieve 3 (some .int) 2 46 2 := ⟨q2167, q136, ⟨by decide +kernel, by decide +kernel, by decide +kernel⟩, Nat.le_of_ble_eq_true h1, Nat.le_of_ble_eq_true h2⟩

set_option maxHeartbeats 4000000 in
noncomputable def F_X5_believe (s : St) (p0 : Int32) (p1 : Int32) : Option (Int32 × St) := nam (setI s 0 0 (0 : Int32)) fun s1 => bnd (F_X5_cannotBelieve s1 p0 p1) fun r3 s4 => if 0 ≤ r3 then (bnd (F_X5_ofCatcher s4 p0 (4 : Int32)) fun r7 s8 => gd (inb (((13 : Int32) + ((5 : Int32) * p0)) + (4 : Int32)) 5460) <| nam (setI s8 2 (((13 : Int32) + ((5 : Int32) * p0)) + (4 : Int32)).toNatClampNeg p1) fun s11 => nam (setI s11 0 1 (0 : Int32)) fun s13 => some (r7, s13)) else (bnd (F_X5_tell s4 r3) fun r15 s16 => some (r15, s16))
set_option maxHeartbeats 4000000 in
theorem c_X5_believe {l : Launch} {E : EV} (hE : GE E) (hS : ∀ σ, eSk E σ → SkM σ) {s s' : St} {r : Int32} {p0 : Int32} {p1 : Int32} (h : F_X5_believe  s p0 p1 = some (r, s')) : CT l E yX5_believe cX5_believe 5 (some .int) 3 68 [vr (some 0), vi p0, vi p1] s (some (vi r)) s' := by
  refine CT.start hE (by decide) rfl [(0, vr (some 0)), (1, vi p0), (2, vi p1)] rfl (fun X hX B => ?_)
  skip
  have B : FX X E cX5_believe 5 (some .int) "RoseThrowModel" "believe" (sn s) (ss s) 3 68 := B
  unfold F_X5_believe at h
  refine r_aload_n (j := 0) B dX5_believe_0 rfl rfl ?_
  refine r_iconst (v := 0) B dX5_believe_1 (by decide) ?_
  obtain ⟨s1, e2, h⟩ := nam_e h
  refine pI5 (k := 0) B e2 rfl (fun z => by rw [(hS _ z).1 0 (by decide)]; rfl) rfl q1517 rfl rfl (fun _ _ _ => rfl) rfl dX5_believe_2 ?_
  refine r_aload_n (j := 0) B dX5_believe_5 rfl rfl ?_
  refine r_iload_n (j := 1) B dX5_believe_6 rfl rfl ?_
  refine r_iload_n (j := 2) B dX5_believe_7 rfl rfl ?_
  obtain ⟨r3, s4, hc5, h⟩ := bnd_e h
  refine r_callVv (As := [vi p0, vi p1]) (rest := []) B rfl rfl EX.same (c_X5_cannotBelieve B.ge hS hc5) (cw_X5_cannotBelieve rfl rfl) (fun z => RV.of 5 ((fun z => by rw [(hS _ z).1 0 (by decide)]; rfl) z) rfl rfl qs113) q2164 q2166 rfl dX5_believe_8 ?_
  refine r_istore_n (L' := [(0, vr (some 0)), (1, vi p0), (2, vi p1), (3, vi r3)]) B dX5_believe_11 rfl (by decide) rfl rfl rfl ?_
  refine r_iload_n (j := 3) B dX5_believe_12 rfl rfl ?_
  refine r_if_ge (tgt := 22) B dX5_believe_13 (by decide) (fun cn6 => ?_) (fun cn6 => ?_)
  · have h := ot cn6 h
    refine r_aload_n (j := 0) B dX5_believe_22 rfl rfl ?_
    refine r_iload_n (j := 1) B dX5_believe_23 rfl rfl ?_
    refine r_iconst (v := 4) B dX5_believe_24 (by decide) ?_
    obtain ⟨r7, s8, hc9, h⟩ := bnd_e h
    refine r_callVv (As := [vi p0, vi (4 : Int32)]) (rest := []) B rfl rfl EX.same (c_X5_ofCatcher B.ge hS hc9) (cw_X5_ofCatcher rfl rfl) (fun z => RV.of 5 ((fun z => by rw [(hS _ z).1 0 (by decide)]; rfl) z) rfl rfl qs52) q1766 q1768 rfl dX5_believe_25 ?_
    refine r_istore (L' := [(0, vr (some 0)), (1, vi p0), (2, vi p1), (3, vi r3), (4, vi r7)]) B dX5_believe_28 (by decide) rfl rfl rfl ?_
    refine r_aload_n (j := 0) B dX5_believe_30 rfl rfl ?_
    refine g5 (k := 3) B (vr (some 2)) rfl (fun z => by rw [(hS _ z).1 0 (by decide)]; rfl) rfl q1520 rfl (fun z => by rw [(hS _ z).2 _ (List.mem_of_getElem? (i := 1) rfl)]; rfl) dX5_believe_31 ?_
    refine r_bipush (v := 13) B dX5_believe_34 (by decide) ?_
    refine r_iconst (v := 5) B dX5_believe_36 (by decide) ?_
    refine r_iload_n (j := 1) B dX5_believe_37 rfl rfl ?_
    refine r_imul B dX5_believe_38 ?_
    refine r_iadd B dX5_believe_39 ?_
    refine r_iconst (v := 4) B dX5_believe_40 (by decide) ?_
    refine r_iadd B dX5_believe_41 ?_
    refine r_iload_n (j := 2) B dX5_believe_42 rfl rfl ?_
    obtain ⟨hg10, h⟩ := gd_e h
    obtain ⟨s11, e12, h⟩ := nam_e h
    refine r_iast B e12 rfl (fun z => (hS _ z).1 2 (by decide)) hg10 dX5_believe_43 ?_
    refine r_aload_n (j := 0) B dX5_believe_44 rfl rfl ?_
    refine r_iconst (v := 0) B dX5_believe_45 (by decide) ?_
    obtain ⟨s13, e14, h⟩ := nam_e h
    refine pI5 (k := 1) B e14 rfl (fun z => by rw [(hS _ z).1 0 (by decide)]; rfl) rfl q1518 rfl rfl (fun _ _ _ => rfl) rfl dX5_believe_46 ?_
    refine r_iload (j := 4) B dX5_believe_49 rfl ?_
    exact r_iret B dX5_believe_51 h
  · have h := of cn6 h
    refine r_aload_n (j := 0) B dX5_believe_16 rfl rfl ?_
    refine r_iload_n (j := 3) B dX5_believe_17 rfl rfl ?_
    obtain ⟨r15, s16, hc17, h⟩ := bnd_e h
    refine r_callVv (As := [vi r3]) (rest := []) B rfl rfl EX.same (c_X5_tell B.ge hS hc17) (cw_X5_tell rfl rfl) (fun z => RV.of 5 ((fun z => by rw [(hS _ z).1 0 (by decide)]; rfl) z) rfl rfl qs47) q1724 q1726 rfl dX5_believe_18 ?_
    exact r_iret B dX5_believe_21 h
set_option maxHeartbeats 4000000 in
theorem cw_X5_believe {X : CX} {fr lo : Nat} (h1 : Nat.ble (3 + 1) fr = true) (h2 : Nat.ble (24 + 68) lo = true) : CW X fr lo yX5_believe cX5_believe 5 (some .int) 3 68 2 := ⟨q2163, q136, ⟨by decide +kernel, by decide +kernel, by decide +kernel⟩, Nat.le_of_ble_eq_true h1, Nat.le_of_ble_eq_true h2⟩

set_option maxHeartbeats 4000000 in
noncomputable def F_X5_steps (s : St) (p0 : Int32) (p1 : Int32) : Option (Int32 × St) := bnd (F_X5_isFree s p1) fun r1 s2 => if r1 = 0 then (some ((0 : Int32), s2)) else (bnd (F_X5_isBarred s2 p0 p1) fun r5 s6 => if r5 = 0 then (bnd (F_X5_setCell s6 p0 p1) fun _ s10 => some ((1 : Int32), s10)) else (some ((0 : Int32), s6)))
set_option maxHeartbeats 4000000 in
theorem c_X5_steps {l : Launch} {E : EV} (hE : GE E) (hS : ∀ σ, eSk E σ → SkM σ) {s s' : St} {r : Int32} {p0 : Int32} {p1 : Int32} (h : F_X5_steps  s p0 p1 = some (r, s')) : CT l E yX5_steps cX5_steps 3 (some .boolean) 7 166 [vr (some 0), vi p0, vi p1] s (some (vi r)) s' := by
  refine CT.start hE (by decide) rfl [(0, vr (some 0)), (1, vi p0), (2, vi p1)] rfl (fun X hX B => ?_)
  skip
  have B : FX X E cX5_steps 3 (some .boolean) "RoseThrowModel" "steps" (sn s) (ss s) 7 166 := B
  unfold F_X5_steps at h
  refine r_aload_n (j := 0) B dX5_steps_0 rfl rfl ?_
  refine r_iload_n (j := 2) B dX5_steps_1 rfl rfl ?_
  obtain ⟨r1, s2, hc3, h⟩ := bnd_e h
  refine r_callVv (As := [vi p1]) (rest := []) B rfl rfl EX.same (c_X5_isFree B.ge hS hc3) (cw_X5_isFree rfl rfl) (fun z => RV.of 5 ((fun z => by rw [(hS _ z).1 0 (by decide)]; rfl) z) rfl rfl qs51) q1762 q1764 rfl dX5_steps_2 ?_
  refine r_if_eq (tgt := 17) B dX5_steps_5 (by decide) (fun cn4 => ?_) (fun cn4 => ?_)
  · have h := ot cn4 h
    refine r_iconst (v := 0) B dX5_steps_17 (by decide) ?_
    exact r_zret B dX5_steps_18 (by decide) h
  · have h := of cn4 h
    refine r_aload_n (j := 0) B dX5_steps_8 rfl rfl ?_
    refine r_iload_n (j := 1) B dX5_steps_9 rfl rfl ?_
    refine r_iload_n (j := 2) B dX5_steps_10 rfl rfl ?_
    obtain ⟨r5, s6, hc7, h⟩ := bnd_e h
    refine r_callVv (As := [vi p0, vi p1]) (rest := []) B rfl rfl EX.same (c_X5_isBarred B.ge hS hc7) (cw_X5_isBarred rfl rfl) (fun z => RV.of 5 ((fun z => by rw [(hS _ z).1 0 (by decide)]; rfl) z) rfl rfl qs90) q1996 q1998 rfl dX5_steps_11 ?_
    refine r_if_eq (tgt := 19) B dX5_steps_14 (by decide) (fun cn8 => ?_) (fun cn8 => ?_)
    · have h := ot cn8 h
      refine r_aload_n (j := 0) B dX5_steps_19 rfl rfl ?_
      refine r_iload_n (j := 1) B dX5_steps_20 rfl rfl ?_
      refine r_iload_n (j := 2) B dX5_steps_21 rfl rfl ?_
      obtain ⟨r9, s10, hc11, h⟩ := bnd_e h
      refine r_callV0 (As := [vi p0, vi p1]) (rest := []) B rfl rfl EX.same (c_X5_setCell B.ge hS hc11) (cw_X5_setCell rfl rfl) (fun z => RV.of 5 ((fun z => by rw [(hS _ z).1 0 (by decide)]; rfl) z) rfl rfl qs49) q1732 q1734 rfl dX5_steps_22 ?_
      refine r_iconst (v := 1) B dX5_steps_25 (by decide) ?_
      exact r_zret B dX5_steps_26 (by decide) h
    · have h := of cn8 h
      refine r_iconst (v := 0) B dX5_steps_17 (by decide) ?_
      exact r_zret B dX5_steps_18 (by decide) h
set_option maxHeartbeats 4000000 in
theorem cw_X5_steps {X : CX} {fr lo : Nat} (h1 : Nat.ble (7 + 1) fr = true) (h2 : Nat.ble (22 + 166) lo = true) : CW X fr lo yX5_steps cX5_steps 3 (some .boolean) 7 166 2 := ⟨q2179, q136, ⟨by decide +kernel, by decide +kernel, by decide +kernel⟩, Nat.le_of_ble_eq_true h1, Nat.le_of_ble_eq_true h2⟩

set_option maxHeartbeats 4000000 in
noncomputable def F_X5_rushNow_146 (k21 : St → Int32 → Int32 → Option (Int32 × St)) (s : St) (x1 : Int32) (x2 : Int32) (z0 : Int32) : Option (Int32 × St) := if z0 = 0 then (k21 s (x1 + (0 : Int32)) (x2 + (1))) else (k21 s (x1 + (1 : Int32)) (x2 + (1)))
set_option maxHeartbeats 4000000 in
theorem w_X5_rushNow_146 {X : CX} {E : EV} {a0 s' : St} {r : Int32} (B : FX X E cX5_rushNow 8 (some .int) "RoseThrowModel" "rushNow" (sn a0) (ss a0) 8 188) (hS : ∀ σ, eSk E σ → SkM σ) (k21 : St → Int32 → Int32 → Option (Int32 × St)) (hk21 : ∀ (s : St) (x1 : Int32) (x2 : Int32), k21 s x1 x2 = some (r, s') → J X E (sn a0) (ss a0) 8 (QR X E a0 (some (vi r)) s') s 21 [(0, vr (some 0)), (1, vi x1), (2, vi x2)] []) (s : St) (x1 : Int32) (x2 : Int32) (z0 : Int32) (h : F_X5_rushNow_146  k21 s x1 x2 z0 = some (r, s')) : J X E (sn a0) (ss a0) 8 (QR X E a0 (some (vi r)) s') s 146 [(0, vr (some 0)), (1, vi x1), (2, vi x2)] [vi z0] := by
  unfold F_X5_rushNow_146 at h
  refine r_istore (L' := [(0, vr (some 0)), (1, vi x1), (2, vi x2), (7, vi z0)]) B dX5_rushNow_146 (by decide) rfl rfl rfl ?_
  refine r_iload_n (j := 1) B dX5_rushNow_148 rfl rfl ?_
  refine r_iload (j := 3) B dX5_rushNow_149 rfl ?_
  refine r_if_eq (tgt := 158) B dX5_rushNow_151 (by decide) (fun cn1 => ?_) (fun cn1 => ?_)
  · have h := ot cn1 h
    refine r_iconst (v := 0) B dX5_rushNow_158 (by decide) ?_
    refine r_iadd B dX5_rushNow_159 ?_
    refine r_istore_n (L' := [(0, vr (some 0)), (1, vi (x1 + (0 : Int32))), (2, vi x2), (7, vi z0)]) B dX5_rushNow_160 rfl (by decide) rfl rfl rfl ?_
    refine r_iinc (j := 2) (v := (x2 + (1))) (L' := [(0, vr (some 0)), (1, vi (x1 + (0 : Int32))), (2, vi (x2 + (1))), (7, vi z0)]) B dX5_rushNow_161 rfl rfl (by decide) rfl rfl rfl ?_
    refine r_goto (tgt := 21) B dX5_rushNow_164 (by decide) ?_
    refine r_pick [0, 1, 2] (L' := [(0, vr (some 0)), (1, vi (x1 + (0 : Int32))), (2, vi (x2 + (1)))]) rfl ?_
    exact hk21 s (x1 + (0 : Int32)) (x2 + (1)) h
  · have h := of cn1 h
    refine r_iconst (v := 1) B dX5_rushNow_154 (by decide) ?_
    refine r_goto (tgt := 159) B dX5_rushNow_155 (by decide) ?_
    refine r_iadd B dX5_rushNow_159 ?_
    refine r_istore_n (L' := [(0, vr (some 0)), (1, vi (x1 + (1 : Int32))), (2, vi x2), (7, vi z0)]) B dX5_rushNow_160 rfl (by decide) rfl rfl rfl ?_
    refine r_iinc (j := 2) (v := (x2 + (1))) (L' := [(0, vr (some 0)), (1, vi (x1 + (1 : Int32))), (2, vi (x2 + (1))), (7, vi z0)]) B dX5_rushNow_161 rfl rfl (by decide) rfl rfl rfl ?_
    refine r_goto (tgt := 21) B dX5_rushNow_164 (by decide) ?_
    refine r_pick [0, 1, 2] (L' := [(0, vr (some 0)), (1, vi (x1 + (1 : Int32))), (2, vi (x2 + (1)))]) rfl ?_
    exact hk21 s (x1 + (1 : Int32)) (x2 + (1)) h
set_option maxHeartbeats 4000000 in
noncomputable def F_X5_rushNow_145 (k21 : St → Int32 → Int32 → Option (Int32 × St)) (s : St) (x1 : Int32) (x2 : Int32) : Option (Int32 × St) := F_X5_rushNow_146 k21 s x1 x2 (0 : Int32)
set_option maxHeartbeats 4000000 in
theorem w_X5_rushNow_145 {X : CX} {E : EV} {a0 s' : St} {r : Int32} (B : FX X E cX5_rushNow 8 (some .int) "RoseThrowModel" "rushNow" (sn a0) (ss a0) 8 188) (hS : ∀ σ, eSk E σ → SkM σ) (k21 : St → Int32 → Int32 → Option (Int32 × St)) (hk21 : ∀ (s : St) (x1 : Int32) (x2 : Int32), k21 s x1 x2 = some (r, s') → J X E (sn a0) (ss a0) 8 (QR X E a0 (some (vi r)) s') s 21 [(0, vr (some 0)), (1, vi x1), (2, vi x2)] []) (s : St) (x1 : Int32) (x2 : Int32) (h : F_X5_rushNow_145  k21 s x1 x2 = some (r, s')) : J X E (sn a0) (ss a0) 8 (QR X E a0 (some (vi r)) s') s 145 [(0, vr (some 0)), (1, vi x1), (2, vi x2)] [] := by
  unfold F_X5_rushNow_145 at h
  refine r_iconst (v := 0) B dX5_rushNow_145 (by decide) ?_
  exact w_X5_rushNow_146 B hS k21 hk21 s x1 x2 (0 : Int32) h
set_option maxHeartbeats 4000000 in
noncomputable def F_X5_rushNow_141 (k21 : St → Int32 → Int32 → Option (Int32 × St)) (s : St) (x1 : Int32) (x2 : Int32) : Option (Int32 × St) := F_X5_rushNow_146 k21 s x1 x2 (1 : Int32)
set_option maxHeartbeats 4000000 in
theorem w_X5_rushNow_141 {X : CX} {E : EV} {a0 s' : St} {r : Int32} (B : FX X E cX5_rushNow 8 (some .int) "RoseThrowModel" "rushNow" (sn a0) (ss a0) 8 188) (hS : ∀ σ, eSk E σ → SkM σ) (k21 : St → Int32 → Int32 → Option (Int32 × St)) (hk21 : ∀ (s : St) (x1 : Int32) (x2 : Int32), k21 s x1 x2 = some (r, s') → J X E (sn a0) (ss a0) 8 (QR X E a0 (some (vi r)) s') s 21 [(0, vr (some 0)), (1, vi x1), (2, vi x2)] []) (s : St) (x1 : Int32) (x2 : Int32) (h : F_X5_rushNow_141  k21 s x1 x2 = some (r, s')) : J X E (sn a0) (ss a0) 8 (QR X E a0 (some (vi r)) s') s 141 [(0, vr (some 0)), (1, vi x1), (2, vi x2)] [] := by
  unfold F_X5_rushNow_141 at h
  refine r_iconst (v := 1) B dX5_rushNow_141 (by decide) ?_
  refine r_goto (tgt := 146) B dX5_rushNow_142 (by decide) ?_
  exact w_X5_rushNow_146 B hS k21 hk21 s x1 x2 (1 : Int32) h
set_option maxHeartbeats 4000000 in
noncomputable def F_X5_rushNow_134 (k21 : St → Int32 → Int32 → Option (Int32 × St)) (s : St) (x1 : Int32) (x2 : Int32) (z0 : Int32) (z1 : Int32) (z2 : Int32) : Option (Int32 × St) := bnd (F_X5_steps s z2 (z1 + z0)) fun r1 s2 => if r1 = 0 then (F_X5_rushNow_145 k21 s2 x1 x2) else (F_X5_rushNow_141 k21 s2 x1 x2)
set_option maxHeartbeats 4000000 in
theorem w_X5_rushNow_134 {X : CX} {E : EV} {a0 s' : St} {r : Int32} (B : FX X E cX5_rushNow 8 (some .int) "RoseThrowModel" "rushNow" (sn a0) (ss a0) 8 188) (hS : ∀ σ, eSk E σ → SkM σ) (k21 : St → Int32 → Int32 → Option (Int32 × St)) (hk21 : ∀ (s : St) (x1 : Int32) (x2 : Int32), k21 s x1 x2 = some (r, s') → J X E (sn a0) (ss a0) 8 (QR X E a0 (some (vi r)) s') s 21 [(0, vr (some 0)), (1, vi x1), (2, vi x2)] []) (s : St) (x1 : Int32) (x2 : Int32) (z0 : Int32) (z1 : Int32) (z2 : Int32) (h : F_X5_rushNow_134  k21 s x1 x2 z0 z1 z2 = some (r, s')) : J X E (sn a0) (ss a0) 8 (QR X E a0 (some (vi r)) s') s 134 [(0, vr (some 0)), (1, vi x1), (2, vi x2)] [vi z0, vi z1, vi z2, vr (some 0)] := by
  unfold F_X5_rushNow_134 at h
  refine r_iadd B dX5_rushNow_134 ?_
  obtain ⟨r1, s2, hc3, h⟩ := bnd_e h
  refine r_callVv (As := [vi z2, vi (z1 + z0)]) (rest := []) B rfl rfl EX.same (c_X5_steps B.ge hS hc3) (cw_X5_steps rfl rfl) (fun z => RV.of 5 ((fun z => by rw [(hS _ z).1 0 (by decide)]; rfl) z) rfl rfl qs115) q2176 q2178 rfl dX5_rushNow_135 ?_
  refine r_if_eq (tgt := 145) B dX5_rushNow_138 (by decide) (fun cn4 => ?_) (fun cn4 => ?_)
  · have h := ot cn4 h
    exact w_X5_rushNow_145 B hS k21 hk21 s2 x1 x2 h
  · have h := of cn4 h
    exact w_X5_rushNow_141 B hS k21 hk21 s2 x1 x2 h
set_option maxHeartbeats 4000000 in
noncomputable def F_X5_rushNow_106 (k21 : St → Int32 → Int32 → Option (Int32 × St)) (s : St) (x1 : Int32) (x2 : Int32) (x4 : Int32) (x6 : Int32) (z0 : Int32) : Option (Int32 × St) := if z0 = 0 then (if x6 = 0 then (F_X5_rushNow_145 k21 s x1 x2) else (if x6 ≤ 0 then (F_X5_rushNow_134 k21 s x1 x2 (-6 : Int32) x4 x2) else (F_X5_rushNow_134 k21 s x1 x2 (6 : Int32) x4 x2))) else (F_X5_rushNow_141 k21 s x1 x2)
set_option maxHeartbeats 4000000 in
theorem w_X5_rushNow_106 {X : CX} {E : EV} {a0 s' : St} {r : Int32} (B : FX X E cX5_rushNow 8 (some .int) "RoseThrowModel" "rushNow" (sn a0) (ss a0) 8 188) (hS : ∀ σ, eSk E σ → SkM σ) (k21 : St → Int32 → Int32 → Option (Int32 × St)) (hk21 : ∀ (s : St) (x1 : Int32) (x2 : Int32), k21 s x1 x2 = some (r, s') → J X E (sn a0) (ss a0) 8 (QR X E a0 (some (vi r)) s') s 21 [(0, vr (some 0)), (1, vi x1), (2, vi x2)] []) (s : St) (x1 : Int32) (x2 : Int32) (x4 : Int32) (x6 : Int32) (z0 : Int32) (h : F_X5_rushNow_106  k21 s x1 x2 x4 x6 z0 = some (r, s')) : J X E (sn a0) (ss a0) 8 (QR X E a0 (some (vi r)) s') s 106 [(0, vr (some 0)), (1, vi x1), (2, vi x2), (4, vi x4), (6, vi x6)] [vi z0] := by
  unfold F_X5_rushNow_106 at h
  refine r_istore (L' := [(0, vr (some 0)), (1, vi x1), (2, vi x2), (4, vi x4), (6, vi x6), (7, vi z0)]) B dX5_rushNow_106 (by decide) rfl rfl rfl ?_
  refine r_iload (j := 5) B dX5_rushNow_108 rfl ?_
  refine r_if_ne (tgt := 141) B dX5_rushNow_110 (by decide) (fun cn1 => ?_) (fun cn1 => ?_)
  · have h := of cn1 h
    refine r_pick [0, 1, 2] (L' := [(0, vr (some 0)), (1, vi x1), (2, vi x2)]) rfl ?_
    exact w_X5_rushNow_141 B hS k21 hk21 s x1 x2 h
  · have h := ot cn1 h
    refine r_iload (j := 4) B dX5_rushNow_113 rfl ?_
    refine r_if_eq (tgt := 145) B dX5_rushNow_115 (by decide) (fun cn2 => ?_) (fun cn2 => ?_)
    · have h := ot cn2 h
      refine r_pick [0, 1, 2] (L' := [(0, vr (some 0)), (1, vi x1), (2, vi x2)]) rfl ?_
      exact w_X5_rushNow_145 B hS k21 hk21 s x1 x2 h
    · have h := of cn2 h
      refine r_aload_n (j := 0) B dX5_rushNow_118 rfl rfl ?_
      refine r_iload_n (j := 2) B dX5_rushNow_119 rfl rfl ?_
      refine r_iload (j := 3) B dX5_rushNow_120 rfl ?_
      refine r_iload (j := 4) B dX5_rushNow_122 rfl ?_
      refine r_if_le (tgt := 132) B dX5_rushNow_124 (by decide) (fun cn3 => ?_) (fun cn3 => ?_)
      · have h := ot cn3 h
        refine r_bipush (v := -6) B dX5_rushNow_132 (by decide) ?_
        refine r_pick [0, 1, 2] (L' := [(0, vr (some 0)), (1, vi x1), (2, vi x2)]) rfl ?_
        exact w_X5_rushNow_134 B hS k21 hk21 s x1 x2 (-6 : Int32) x4 x2 h
      · have h := of cn3 h
        refine r_bipush (v := 6) B dX5_rushNow_127 (by decide) ?_
        refine r_goto (tgt := 134) B dX5_rushNow_129 (by decide) ?_
        refine r_pick [0, 1, 2] (L' := [(0, vr (some 0)), (1, vi x1), (2, vi x2)]) rfl ?_
        exact w_X5_rushNow_134 B hS k21 hk21 s x1 x2 (6 : Int32) x4 x2 h
set_option maxHeartbeats 4000000 in
noncomputable def F_X5_rushNow_105 (k21 : St → Int32 → Int32 → Option (Int32 × St)) (s : St) (x1 : Int32) (x2 : Int32) (x4 : Int32) (x6 : Int32) : Option (Int32 × St) := F_X5_rushNow_106 k21 s x1 x2 x4 x6 (0 : Int32)
set_option maxHeartbeats 4000000 in
theorem w_X5_rushNow_105 {X : CX} {E : EV} {a0 s' : St} {r : Int32} (B : FX X E cX5_rushNow 8 (some .int) "RoseThrowModel" "rushNow" (sn a0) (ss a0) 8 188) (hS : ∀ σ, eSk E σ → SkM σ) (k21 : St → Int32 → Int32 → Option (Int32 × St)) (hk21 : ∀ (s : St) (x1 : Int32) (x2 : Int32), k21 s x1 x2 = some (r, s') → J X E (sn a0) (ss a0) 8 (QR X E a0 (some (vi r)) s') s 21 [(0, vr (some 0)), (1, vi x1), (2, vi x2)] []) (s : St) (x1 : Int32) (x2 : Int32) (x4 : Int32) (x6 : Int32) (h : F_X5_rushNow_105  k21 s x1 x2 x4 x6 = some (r, s')) : J X E (sn a0) (ss a0) 8 (QR X E a0 (some (vi r)) s') s 105 [(0, vr (some 0)), (1, vi x1), (2, vi x2), (4, vi x4), (6, vi x6)] [] := by
  unfold F_X5_rushNow_105 at h
  refine r_iconst (v := 0) B dX5_rushNow_105 (by decide) ?_
  exact w_X5_rushNow_106 B hS k21 hk21 s x1 x2 x4 x6 (0 : Int32) h
set_option maxHeartbeats 4000000 in
noncomputable def F_X5_rushNow_94 (k21 : St → Int32 → Int32 → Option (Int32 × St)) (s : St) (x1 : Int32) (x2 : Int32) (x4 : Int32) (x6 : Int32) (z0 : Int32) (z1 : Int32) (z2 : Int32) : Option (Int32 × St) := bnd (F_X5_steps s z2 (z1 + z0)) fun r1 s2 => if r1 = 0 then (F_X5_rushNow_105 k21 s2 x1 x2 x4 x6) else (F_X5_rushNow_106 k21 s2 x1 x2 x4 x6 (1 : Int32))
set_option maxHeartbeats 4000000 in
theorem w_X5_rushNow_94 {X : CX} {E : EV} {a0 s' : St} {r : Int32} (B : FX X E cX5_rushNow 8 (some .int) "RoseThrowModel" "rushNow" (sn a0) (ss a0) 8 188) (hS : ∀ σ, eSk E σ → SkM σ) (k21 : St → Int32 → Int32 → Option (Int32 × St)) (hk21 : ∀ (s : St) (x1 : Int32) (x2 : Int32), k21 s x1 x2 = some (r, s') → J X E (sn a0) (ss a0) 8 (QR X E a0 (some (vi r)) s') s 21 [(0, vr (some 0)), (1, vi x1), (2, vi x2)] []) (s : St) (x1 : Int32) (x2 : Int32) (x4 : Int32) (x6 : Int32) (z0 : Int32) (z1 : Int32) (z2 : Int32) (h : F_X5_rushNow_94  k21 s x1 x2 x4 x6 z0 z1 z2 = some (r, s')) : J X E (sn a0) (ss a0) 8 (QR X E a0 (some (vi r)) s') s 94 [(0, vr (some 0)), (1, vi x1), (2, vi x2), (4, vi x4), (6, vi x6)] [vi z0, vi z1, vi z2, vr (some 0)] := by
  unfold F_X5_rushNow_94 at h
  refine r_iadd B dX5_rushNow_94 ?_
  obtain ⟨r1, s2, hc3, h⟩ := bnd_e h
  refine r_callVv (As := [vi z2, vi (z1 + z0)]) (rest := []) B rfl rfl EX.same (c_X5_steps B.ge hS hc3) (cw_X5_steps rfl rfl) (fun z => RV.of 5 ((fun z => by rw [(hS _ z).1 0 (by decide)]; rfl) z) rfl rfl qs115) q2176 q2178 rfl dX5_rushNow_95 ?_
  refine r_if_eq (tgt := 105) B dX5_rushNow_98 (by decide) (fun cn4 => ?_) (fun cn4 => ?_)
  · have h := ot cn4 h
    exact w_X5_rushNow_105 B hS k21 hk21 s2 x1 x2 x4 x6 h
  · have h := of cn4 h
    refine r_iconst (v := 1) B dX5_rushNow_101 (by decide) ?_
    refine r_goto (tgt := 106) B dX5_rushNow_102 (by decide) ?_
    exact w_X5_rushNow_106 B hS k21 hk21 s2 x1 x2 x4 x6 (1 : Int32) h
set_option maxHeartbeats 4000000 in
noncomputable def F_X5_rushNow_21 : Nat → St → Int32 → Int32 → Option (Int32 × St)
  | 0 => fun _ _ _ => none
  | n + 1 => fun s x1 x2 => gd (inb (0 : Int32) 5460) <| if (si s 2 (0 : Int32).toNatClampNeg) ≤ x2 then (some (x1, s)) else (bnd (F_X5_ofCatcher s x2 (4 : Int32)) fun r3 s4 => if r3 = (-1 : Int32) then (F_X5_rushNow_21  n s4 x1 (x2 + (1))) else (bnd (F_X5_ofCatcher s4 x2 (3 : Int32)) fun r7 s8 => nam ((r3 - r3 / (6 : Int32) * (6 : Int32)) - (r7 - r7 / (6 : Int32) * (6 : Int32))) fun y10 => nam ((r3 / (6 : Int32)) - (r7 / (6 : Int32))) fun y12 => if y10 = 0 then (F_X5_rushNow_105 (F_X5_rushNow_21  n) s8 x1 x2 r7 y12) else (if y10 ≤ 0 then (F_X5_rushNow_94 (F_X5_rushNow_21  n) s8 x1 x2 r7 y12 (-1 : Int32) r7 x2) else (F_X5_rushNow_94 (F_X5_rushNow_21  n) s8 x1 x2 r7 y12 (1 : Int32) r7 x2))))
set_option maxHeartbeats 4000000 in
theorem w_X5_rushNow_21 {X : CX} {E : EV} {a0 s' : St} {r : Int32} (B : FX X E cX5_rushNow 8 (some .int) "RoseThrowModel" "rushNow" (sn a0) (ss a0) 8 188) (hS : ∀ σ, eSk E σ → SkM σ) : ∀ (n : Nat) (s : St) (x1 : Int32) (x2 : Int32), F_X5_rushNow_21   n s x1 x2 = some (r, s') → J X E (sn a0) (ss a0) 8 (QR X E a0 (some (vi r)) s') s 21 [(0, vr (some 0)), (1, vi x1), (2, vi x2)] [] := by
  intro n
  induction n with
  | zero => intro s x1 x2 h; exact absurd (show (none : Option (Int32 × St)) = _ from h) (by simp)
  | succ n ih =>
    intro s x1 x2 h
    rw [F_X5_rushNow_21] at h
    refine r_iload_n (j := 2) B dX5_rushNow_21 rfl rfl ?_
    refine r_aload_n (j := 0) B dX5_rushNow_22 rfl rfl ?_
    refine g5 (k := 3) B (vr (some 2)) rfl (fun z => by rw [(hS _ z).1 0 (by decide)]; rfl) rfl q1520 rfl (fun z => by rw [(hS _ z).2 _ (List.mem_of_getElem? (i := 1) rfl)]; rfl) dX5_rushNow_23 ?_
    refine r_iconst (v := 0) B dX5_rushNow_26 (by decide) ?_
    obtain ⟨hg1, h⟩ := gd_e h
    refine r_iald B rfl (fun z => (hS _ z).1 2 (by decide)) hg1 dX5_rushNow_27 ?_
    refine r_ic_ge (tgt := 167) B dX5_rushNow_28 (by decide) (fun cn2 => ?_) (fun cn2 => ?_)
    · have h := ot cn2 h
      refine r_iload_n (j := 1) B dX5_rushNow_167 rfl rfl ?_
      exact r_iret B dX5_rushNow_168 h
    · have h := of cn2 h
      refine r_aload_n (j := 0) B dX5_rushNow_31 rfl rfl ?_
      refine r_iload_n (j := 2) B dX5_rushNow_32 rfl rfl ?_
      refine r_iconst (v := 4) B dX5_rushNow_33 (by decide) ?_
      obtain ⟨r3, s4, hc5, h⟩ := bnd_e h
      refine r_callVv (As := [vi x2, vi (4 : Int32)]) (rest := []) B rfl rfl EX.same (c_X5_ofCatcher B.ge hS hc5) (cw_X5_ofCatcher rfl rfl) (fun z => RV.of 5 ((fun z => by rw [(hS _ z).1 0 (by decide)]; rfl) z) rfl rfl qs52) q1766 q1768 rfl dX5_rushNow_34 ?_
      refine r_istore_n (L' := [(0, vr (some 0)), (1, vi x1), (2, vi x2), (3, vi r3)]) B dX5_rushNow_37 rfl (by decide) rfl rfl rfl ?_
      refine r_iload_n (j := 3) B dX5_rushNow_38 rfl rfl ?_
      refine r_iconst (v := -1) B dX5_rushNow_39 (by decide) ?_
      refine r_ic_eq (tgt := 161) B dX5_rushNow_40 (by decide) (fun cn6 => ?_) (fun cn6 => ?_)
      · have h := ot cn6 h
        refine r_iinc (j := 2) (v := (x2 + (1))) (L' := [(0, vr (some 0)), (1, vi x1), (2, vi (x2 + (1))), (3, vi r3)]) B dX5_rushNow_161 rfl rfl (by decide) rfl rfl rfl ?_
        refine r_goto (tgt := 21) B dX5_rushNow_164 (by decide) ?_
        refine r_pick [0, 1, 2] (L' := [(0, vr (some 0)), (1, vi x1), (2, vi (x2 + (1)))]) rfl ?_
        exact ih s4 x1 (x2 + (1)) h
      · have h := of cn6 h
        refine r_aload_n (j := 0) B dX5_rushNow_43 rfl rfl ?_
        refine r_iload_n (j := 2) B dX5_rushNow_44 rfl rfl ?_
        refine r_iconst (v := 3) B dX5_rushNow_45 (by decide) ?_
        obtain ⟨r7, s8, hc9, h⟩ := bnd_e h
        refine r_callVv (As := [vi x2, vi (3 : Int32)]) (rest := []) B rfl rfl EX.same (c_X5_ofCatcher B.ge hS hc9) (cw_X5_ofCatcher rfl rfl) (fun z => RV.of 5 ((fun z => by rw [(hS _ z).1 0 (by decide)]; rfl) z) rfl rfl qs52) q1766 q1768 rfl dX5_rushNow_46 ?_
        refine r_istore (L' := [(0, vr (some 0)), (1, vi x1), (2, vi x2), (3, vi r3), (4, vi r7)]) B dX5_rushNow_49 (by decide) rfl rfl rfl ?_
        refine r_iload_n (j := 3) B dX5_rushNow_51 rfl rfl ?_
        refine r_bipush (v := 6) B dX5_rushNow_52 (by decide) ?_
        refine r_irem B dX5_rushNow_54 (by decide) ?_
        refine r_iload (j := 4) B dX5_rushNow_55 rfl ?_
        refine r_bipush (v := 6) B dX5_rushNow_57 (by decide) ?_
        refine r_irem B dX5_rushNow_59 (by decide) ?_
        refine r_isub B dX5_rushNow_60 ?_
        obtain ⟨y10, e11, h⟩ := nam_e h
        refine r_topi e11 ?_
        refine r_istore (L' := [(0, vr (some 0)), (1, vi x1), (2, vi x2), (3, vi r3), (4, vi r7), (5, vi y10)]) B dX5_rushNow_61 (by decide) rfl rfl rfl ?_
        refine r_iload_n (j := 3) B dX5_rushNow_63 rfl rfl ?_
        refine r_bipush (v := 6) B dX5_rushNow_64 (by decide) ?_
        refine r_idiv B dX5_rushNow_66 (by decide) ?_
        refine r_iload (j := 4) B dX5_rushNow_67 rfl ?_
        refine r_bipush (v := 6) B dX5_rushNow_69 (by decide) ?_
        refine r_idiv B dX5_rushNow_71 (by decide) ?_
        refine r_isub B dX5_rushNow_72 ?_
        obtain ⟨y12, e13, h⟩ := nam_e h
        refine r_topi e13 ?_
        refine r_istore (L' := [(0, vr (some 0)), (1, vi x1), (2, vi x2), (3, vi r3), (4, vi r7), (5, vi y10), (6, vi y12)]) B dX5_rushNow_73 (by decide) rfl rfl rfl ?_
        refine r_iload (j := 5) B dX5_rushNow_75 rfl ?_
        refine r_if_eq (tgt := 105) B dX5_rushNow_77 (by decide) (fun cn14 => ?_) (fun cn14 => ?_)
        · have h := ot cn14 h
          refine r_pick [0, 1, 2, 4, 6] (L' := [(0, vr (some 0)), (1, vi x1), (2, vi x2), (4, vi r7), (6, vi y12)]) rfl ?_
          exact w_X5_rushNow_105 B hS (F_X5_rushNow_21  n) ih s8 x1 x2 r7 y12 h
        · have h := of cn14 h
          refine r_aload_n (j := 0) B dX5_rushNow_80 rfl rfl ?_
          refine r_iload_n (j := 2) B dX5_rushNow_81 rfl rfl ?_
          refine r_iload (j := 4) B dX5_rushNow_82 rfl ?_
          refine r_iload (j := 5) B dX5_rushNow_84 rfl ?_
          refine r_if_le (tgt := 93) B dX5_rushNow_86 (by decide) (fun cn15 => ?_) (fun cn15 => ?_)
          · have h := ot cn15 h
            refine r_iconst (v := -1) B dX5_rushNow_93 (by decide) ?_
            refine r_pick [0, 1, 2, 4, 6] (L' := [(0, vr (some 0)), (1, vi x1), (2, vi x2), (4, vi r7), (6, vi y12)]) rfl ?_
            exact w_X5_rushNow_94 B hS (F_X5_rushNow_21  n) ih s8 x1 x2 r7 y12 (-1 : Int32) r7 x2 h
          · have h := of cn15 h
            refine r_iconst (v := 1) B dX5_rushNow_89 (by decide) ?_
            refine r_goto (tgt := 94) B dX5_rushNow_90 (by decide) ?_
            refine r_pick [0, 1, 2, 4, 6] (L' := [(0, vr (some 0)), (1, vi x1), (2, vi x2), (4, vi r7), (6, vi y12)]) rfl ?_
            exact w_X5_rushNow_94 B hS (F_X5_rushNow_21  n) ih s8 x1 x2 r7 y12 (1 : Int32) r7 x2 h
set_option maxHeartbeats 4000000 in
noncomputable def F_X5_rushNow (s : St)  : Option (Int32 × St) := gd (inb (0 : Int32) 5460) <| if (si s 2 (0 : Int32).toNatClampNeg) = 0 then (some ((-3 : Int32), s)) else (bnd (F_X5_remember s (1 : Int32)) fun _ s4 => F_X5_rushNow_21 FU s4 (0 : Int32) (0 : Int32))
set_option maxHeartbeats 4000000 in
theorem c_X5_rushNow {l : Launch} {E : EV} (hE : GE E) (hS : ∀ σ, eSk E σ → SkM σ) {s s' : St} {r : Int32}  (h : F_X5_rushNow  s  = some (r, s')) : CT l E yX5_rushNow cX5_rushNow 8 (some .int) 8 188 [vr (some 0)] s (some (vi r)) s' := by
  refine CT.start hE (by decide) rfl [(0, vr (some 0))] rfl (fun X hX B => ?_)
  skip
  have B : FX X E cX5_rushNow 8 (some .int) "RoseThrowModel" "rushNow" (sn s) (ss s) 8 188 := B
  unfold F_X5_rushNow at h
  refine r_aload_n (j := 0) B dX5_rushNow_0 rfl rfl ?_
  refine g5 (k := 3) B (vr (some 2)) rfl (fun z => by rw [(hS _ z).1 0 (by decide)]; rfl) rfl q1520 rfl (fun z => by rw [(hS _ z).2 _ (List.mem_of_getElem? (i := 1) rfl)]; rfl) dX5_rushNow_1 ?_
  refine r_iconst (v := 0) B dX5_rushNow_4 (by decide) ?_
  obtain ⟨hg1, h⟩ := gd_e h
  refine r_iald B rfl (fun z => (hS _ z).1 2 (by decide)) hg1 dX5_rushNow_5 ?_
  refine r_if_ne (tgt := 12) B dX5_rushNow_6 (by decide) (fun cn2 => ?_) (fun cn2 => ?_)
  · have h := of cn2 h
    refine r_aload_n (j := 0) B dX5_rushNow_12 rfl rfl ?_
    refine r_iconst (v := 1) B dX5_rushNow_13 (by decide) ?_
    obtain ⟨r3, s4, hc5, h⟩ := bnd_e h
    refine r_callV0 (As := [vi (1 : Int32)]) (rest := []) B rfl rfl EX.same (c_X5_remember B.ge hS hc5) (cw_X5_remember rfl rfl) (fun z => RV.of 5 ((fun z => by rw [(hS _ z).1 0 (by decide)]; rfl) z) rfl rfl qs112) q2156 q2158 rfl dX5_rushNow_14 ?_
    refine r_iconst (v := 0) B dX5_rushNow_17 (by decide) ?_
    refine r_istore_n (L' := [(0, vr (some 0)), (1, vi (0 : Int32))]) B dX5_rushNow_18 rfl (by decide) rfl rfl rfl ?_
    refine r_iconst (v := 0) B dX5_rushNow_19 (by decide) ?_
    refine r_istore_n (L' := [(0, vr (some 0)), (1, vi (0 : Int32)), (2, vi (0 : Int32))]) B dX5_rushNow_20 rfl (by decide) rfl rfl rfl ?_
    exact w_X5_rushNow_21 B hS FU s4 (0 : Int32) (0 : Int32) h
  · have h := ot cn2 h
    refine r_bipush (v := -3) B dX5_rushNow_9 (by decide) ?_
    exact r_iret B dX5_rushNow_11 h
set_option maxHeartbeats 4000000 in
theorem cw_X5_rushNow {X : CX} {fr lo : Nat} (h1 : Nat.ble (8 + 1) fr = true) (h2 : Nat.ble (27 + 188) lo = true) : CW X fr lo yX5_rushNow cX5_rushNow 8 (some .int) 8 188 0 := ⟨q2175, q136, ⟨by decide +kernel, by decide +kernel, by decide +kernel⟩, Nat.le_of_ble_eq_true h1, Nat.le_of_ble_eq_true h2⟩

set_option maxHeartbeats 4000000 in
noncomputable def F_X5_rush (s : St)  : Option (Int32 × St) := nam (setI s 0 0 (0 : Int32)) fun s1 => bnd (F_X5_rushNow s1) fun r3 s4 => bnd (F_X5_tell s4 r3) fun r6 s7 => some (r6, s7)
set_option maxHeartbeats 4000000 in
theorem c_X5_rush {l : Launch} {E : EV} (hE : GE E) (hS : ∀ σ, eSk E σ → SkM σ) {s s' : St} {r : Int32}  (h : F_X5_rush  s  = some (r, s')) : CT l E yX5_rush cX5_rush 1 (some .int) 9 215 [vr (some 0)] s (some (vi r)) s' := by
  refine CT.start hE (by decide) rfl [(0, vr (some 0))] rfl (fun X hX B => ?_)
  skip
  have B : FX X E cX5_rush 1 (some .int) "RoseThrowModel" "rush" (sn s) (ss s) 9 215 := B
  unfold F_X5_rush at h
  refine r_aload_n (j := 0) B dX5_rush_0 rfl rfl ?_
  refine r_iconst (v := 0) B dX5_rush_1 (by decide) ?_
  obtain ⟨s1, e2, h⟩ := nam_e h
  refine pI5 (k := 0) B e2 rfl (fun z => by rw [(hS _ z).1 0 (by decide)]; rfl) rfl q1517 rfl rfl (fun _ _ _ => rfl) rfl dX5_rush_2 ?_
  refine r_aload_n (j := 0) B dX5_rush_5 rfl rfl ?_
  refine r_aload_n (j := 0) B dX5_rush_6 rfl rfl ?_
  obtain ⟨r3, s4, hc5, h⟩ := bnd_e h
  refine r_callVv (As := []) (rest := [vr (some 0)]) B rfl rfl EX.same (c_X5_rushNow B.ge hS hc5) (cw_X5_rushNow rfl rfl) (fun z => RV.of 5 ((fun z => by rw [(hS _ z).1 0 (by decide)]; rfl) z) rfl rfl qs114) q2172 q2174 rfl dX5_rush_7 ?_
  obtain ⟨r6, s7, hc8, h⟩ := bnd_e h
  refine r_callVv (As := [vi r3]) (rest := []) B rfl rfl EX.same (c_X5_tell B.ge hS hc8) (cw_X5_tell rfl rfl) (fun z => RV.of 5 ((fun z => by rw [(hS _ z).1 0 (by decide)]; rfl) z) rfl rfl qs47) q1724 q1726 rfl dX5_rush_10 ?_
  exact r_iret B dX5_rush_13 h
set_option maxHeartbeats 4000000 in
theorem cw_X5_rush {X : CX} {fr lo : Nat} (h1 : Nat.ble (9 + 1) fr = true) (h2 : Nat.ble (20 + 215) lo = true) : CW X fr lo yX5_rush cX5_rush 1 (some .int) 9 215 0 := ⟨q2171, q136, ⟨by decide +kernel, by decide +kernel, by decide +kernel⟩, Nat.le_of_ble_eq_true h1, Nat.le_of_ble_eq_true h2⟩

set_option maxHeartbeats 4000000 in
noncomputable def F_X5_readSum_22 (s : St) (x1 : Int32) : Option (Unit × St) := gd (inb (x1 + (1 : Int32)) 96) <| nam (setI s 27 (x1 + (1 : Int32)).toNatClampNeg (si s 0 24)) fun s2 => some ((), s2)
set_option maxHeartbeats 4000000 in
theorem w_X5_readSum_22 {X : CX} {E : EV} {a0 s' : St} {r : Unit} (B : FX X E cX5_readSum 2 none "RoseThrowModel" "readSum" (sn a0) (ss a0) 7 151) (hS : ∀ σ, eSk E σ → SkM σ) (s : St) (x1 : Int32) (h : F_X5_readSum_22   s x1 = some (r, s')) : J X E (sn a0) (ss a0) 2 (QR X E a0 none s') s 22 [(0, vr (some 0)), (1, vi x1)] [] := by
  unfold F_X5_readSum_22 at h
  refine r_aload_n (j := 0) B dX5_readSum_22 rfl rfl ?_
  refine g5 (k := 58) B (vr (some 27)) rfl (fun z => by rw [(hS _ z).1 0 (by decide)]; rfl) rfl q1575 rfl (fun z => by rw [(hS _ z).2 _ (List.mem_of_getElem? (i := 26) rfl)]; rfl) dX5_readSum_23 ?_
  refine r_iload_n (j := 1) B dX5_readSum_26 rfl rfl ?_
  refine r_iconst (v := 1) B dX5_readSum_27 (by decide) ?_
  refine r_iadd B dX5_readSum_28 ?_
  refine r_aload_n (j := 0) B dX5_readSum_29 rfl rfl ?_
  refine g5 (k := 24) B (vi (si s 0 24)) rfl (fun z => by rw [(hS _ z).1 0 (by decide)]; rfl) rfl q1541 rfl (fun _ => rfl) dX5_readSum_30 ?_
  obtain ⟨hg1, h⟩ := gd_e h
  obtain ⟨s2, e3, h⟩ := nam_e h
  refine r_iast B e3 rfl (fun z => (hS _ z).1 27 (by decide)) hg1 dX5_readSum_33 ?_
  exact r_vret B dX5_readSum_34 h
set_option maxHeartbeats 4000000 in
noncomputable def F_X5_readSum (s : St) (p0 : Int32) : Option (Unit × St) := gd (inb p0 96) <| nam (setI s 27 p0.toNatClampNeg (si s 0 24)) fun s2 => if (si s2 0 20) = 0 then (bnd (F_X5_readExpression s2 (0 : Int32)) fun _ s6 => F_X5_readSum_22 s6 p0) else (F_X5_readSum_22 s2 p0)
set_option maxHeartbeats 4000000 in
theorem c_X5_readSum {l : Launch} {E : EV} (hE : GE E) (hS : ∀ σ, eSk E σ → SkM σ) {s s' : St} {r : Unit} {p0 : Int32} (h : F_X5_readSum  s p0 = some (r, s')) : CT l E yX5_readSum cX5_readSum 2 none 7 151 [vr (some 0), vi p0] s none s' := by
  refine CT.start hE (by decide) rfl [(0, vr (some 0)), (1, vi p0)] rfl (fun X hX B => ?_)
  skip
  have B : FX X E cX5_readSum 2 none "RoseThrowModel" "readSum" (sn s) (ss s) 7 151 := B
  unfold F_X5_readSum at h
  refine r_aload_n (j := 0) B dX5_readSum_0 rfl rfl ?_
  refine g5 (k := 58) B (vr (some 27)) rfl (fun z => by rw [(hS _ z).1 0 (by decide)]; rfl) rfl q1575 rfl (fun z => by rw [(hS _ z).2 _ (List.mem_of_getElem? (i := 26) rfl)]; rfl) dX5_readSum_1 ?_
  refine r_iload_n (j := 1) B dX5_readSum_4 rfl rfl ?_
  refine r_aload_n (j := 0) B dX5_readSum_5 rfl rfl ?_
  refine g5 (k := 24) B (vi (si s 0 24)) rfl (fun z => by rw [(hS _ z).1 0 (by decide)]; rfl) rfl q1541 rfl (fun _ => rfl) dX5_readSum_6 ?_
  obtain ⟨hg1, h⟩ := gd_e h
  obtain ⟨s2, e3, h⟩ := nam_e h
  refine r_iast B e3 rfl (fun z => (hS _ z).1 27 (by decide)) hg1 dX5_readSum_9 ?_
  refine r_aload_n (j := 0) B dX5_readSum_10 rfl rfl ?_
  refine g5 (k := 20) B (vi (si s2 0 20)) rfl (fun z => by rw [(hS _ z).1 0 (by decide)]; rfl) rfl q1537 rfl (fun _ => rfl) dX5_readSum_11 ?_
  refine r_if_ne (tgt := 22) B dX5_readSum_14 (by decide) (fun cn4 => ?_) (fun cn4 => ?_)
  · have h := of cn4 h
    exact w_X5_readSum_22 B hS s2 p0 h
  · have h := ot cn4 h
    refine r_aload_n (j := 0) B dX5_readSum_17 rfl rfl ?_
    refine r_iconst (v := 0) B dX5_readSum_18 (by decide) ?_
    obtain ⟨r5, s6, hc7, h⟩ := bnd_e h
    refine r_callV0 (As := [vi (0 : Int32)]) (rest := []) B rfl rfl EX.same (c_X5_readExpression B.ge hS hc7) (cw_X5_readExpression rfl rfl) (fun z => RV.of 5 ((fun z => by rw [(hS _ z).1 0 (by decide)]; rfl) z) rfl rfl qs71) q1899 q1901 rfl dX5_readSum_19 ?_
    exact w_X5_readSum_22 B hS s6 p0 h
set_option maxHeartbeats 4000000 in
theorem cw_X5_readSum {X : CX} {fr lo : Nat} (h1 : Nat.ble (7 + 1) fr = true) (h2 : Nat.ble (21 + 151) lo = true) : CW X fr lo yX5_readSum cX5_readSum 2 none 7 151 1 := ⟨q2194, q136, ⟨by decide +kernel, by decide +kernel, by decide +kernel⟩, Nat.le_of_ble_eq_true h1, Nat.le_of_ble_eq_true h2⟩

set_option maxHeartbeats 4000000 in
noncomputable def F_X5_readOrder_223 (s : St) (x2 : Int32) : Option (Unit × St) := gd (inb (x2 + (6 : Int32)) 96) <| nam (setI s 27 (x2 + (6 : Int32)).toNatClampNeg (si s 0 24)) fun s2 => some ((), s2)
set_option maxHeartbeats 4000000 in
theorem w_X5_readOrder_223 {X : CX} {E : EV} {a0 s' : St} {r : Unit} (B : FX X E cX5_readOrder 3 none "RoseThrowModel" "readOrder" (sn a0) (ss a0) 8 172) (hS : ∀ σ, eSk E σ → SkM σ) (s : St) (x2 : Int32) (h : F_X5_readOrder_223   s x2 = some (r, s')) : J X E (sn a0) (ss a0) 3 (QR X E a0 none s') s 223 [(0, vr (some 0)), (2, vi x2)] [] := by
  unfold F_X5_readOrder_223 at h
  refine r_aload_n (j := 0) B dX5_readOrder_223 rfl rfl ?_
  refine g5 (k := 58) B (vr (some 27)) rfl (fun z => by rw [(hS _ z).1 0 (by decide)]; rfl) rfl q1575 rfl (fun z => by rw [(hS _ z).2 _ (List.mem_of_getElem? (i := 26) rfl)]; rfl) dX5_readOrder_224 ?_
  refine r_iload_n (j := 1) B dX5_readOrder_227 rfl rfl ?_
  refine r_bipush (v := 6) B dX5_readOrder_228 (by decide) ?_
  refine r_iadd B dX5_readOrder_230 ?_
  refine r_aload_n (j := 0) B dX5_readOrder_231 rfl rfl ?_
  refine g5 (k := 24) B (vi (si s 0 24)) rfl (fun z => by rw [(hS _ z).1 0 (by decide)]; rfl) rfl q1541 rfl (fun _ => rfl) dX5_readOrder_232 ?_
  obtain ⟨hg1, h⟩ := gd_e h
  obtain ⟨s2, e3, h⟩ := nam_e h
  refine r_iast B e3 rfl (fun z => (hS _ z).1 27 (by decide)) hg1 dX5_readOrder_235 ?_
  exact r_vret B dX5_readOrder_236 h
set_option maxHeartbeats 4000000 in
noncomputable def F_X5_readOrder_185 (s : St) (x2 : Int32) : Option (Unit × St) := gd (inb (x2 + (5 : Int32)) 96) <| nam (setI s 27 (x2 + (5 : Int32)).toNatClampNeg (si s 0 24)) fun s2 => if (si s2 0 20) = 0 then (bnd (F_X5_isWord s2 (294 : Int64)) fun r5 s6 => if r5 = 0 then (F_X5_readOrder_223 s6 x2) else (bnd (F_X5_next s6) fun _ s10 => bnd (F_X5_readExpression s10 (1 : Int32)) fun _ s13 => F_X5_readOrder_223 s13 x2)) else (F_X5_readOrder_223 s2 x2)
set_option maxHeartbeats 4000000 in
theorem w_X5_readOrder_185 {X : CX} {E : EV} {a0 s' : St} {r : Unit} (B : FX X E cX5_readOrder 3 none "RoseThrowModel" "readOrder" (sn a0) (ss a0) 8 172) (hS : ∀ σ, eSk E σ → SkM σ) (s : St) (x2 : Int32) (h : F_X5_readOrder_185   s x2 = some (r, s')) : J X E (sn a0) (ss a0) 3 (QR X E a0 none s') s 185 [(0, vr (some 0)), (2, vi x2)] [] := by
  unfold F_X5_readOrder_185 at h
  refine r_aload_n (j := 0) B dX5_readOrder_185 rfl rfl ?_
  refine g5 (k := 58) B (vr (some 27)) rfl (fun z => by rw [(hS _ z).1 0 (by decide)]; rfl) rfl q1575 rfl (fun z => by rw [(hS _ z).2 _ (List.mem_of_getElem? (i := 26) rfl)]; rfl) dX5_readOrder_186 ?_
  refine r_iload_n (j := 1) B dX5_readOrder_189 rfl rfl ?_
  refine r_iconst (v := 5) B dX5_readOrder_190 (by decide) ?_
  refine r_iadd B dX5_readOrder_191 ?_
  refine r_aload_n (j := 0) B dX5_readOrder_192 rfl rfl ?_
  refine g5 (k := 24) B (vi (si s 0 24)) rfl (fun z => by rw [(hS _ z).1 0 (by decide)]; rfl) rfl q1541 rfl (fun _ => rfl) dX5_readOrder_193 ?_
  obtain ⟨hg1, h⟩ := gd_e h
  obtain ⟨s2, e3, h⟩ := nam_e h
  refine r_iast B e3 rfl (fun z => (hS _ z).1 27 (by decide)) hg1 dX5_readOrder_196 ?_
  refine r_aload_n (j := 0) B dX5_readOrder_197 rfl rfl ?_
  refine g5 (k := 20) B (vi (si s2 0 20)) rfl (fun z => by rw [(hS _ z).1 0 (by decide)]; rfl) rfl q1537 rfl (fun _ => rfl) dX5_readOrder_198 ?_
  refine r_if_ne (tgt := 223) B dX5_readOrder_201 (by decide) (fun cn4 => ?_) (fun cn4 => ?_)
  · have h := of cn4 h
    exact w_X5_readOrder_223 B hS s2 x2 h
  · have h := ot cn4 h
    refine r_aload_n (j := 0) B dX5_readOrder_204 rfl rfl ?_
    refine r_ldc2 B dX5_readOrder_205 q1972 ?_
    obtain ⟨r5, s6, hc7, h⟩ := bnd_e h
    refine r_callVv (As := [vl (294 : Int64)]) (rest := []) B rfl rfl EX.same (c_X5_isWord B.ge hS hc7) (cw_X5_isWord rfl rfl) (fun z => RV.of 5 ((fun z => by rw [(hS _ z).1 0 (by decide)]; rfl) z) rfl rfl qs69) q1891 q1893 rfl dX5_readOrder_208 ?_
    refine r_if_eq (tgt := 223) B dX5_readOrder_211 (by decide) (fun cn8 => ?_) (fun cn8 => ?_)
    · have h := ot cn8 h
      exact w_X5_readOrder_223 B hS s6 x2 h
    · have h := of cn8 h
      refine r_aload_n (j := 0) B dX5_readOrder_214 rfl rfl ?_
      obtain ⟨r9, s10, hc11, h⟩ := bnd_e h
      refine r_callV0 (As := []) (rest := []) B rfl rfl EX.same (c_X5_next B.ge hS hc11) (cw_X5_next rfl rfl) (fun z => RV.of 5 ((fun z => by rw [(hS _ z).1 0 (by decide)]; rfl) z) rfl rfl qs67) q1872 q1874 rfl dX5_readOrder_215 ?_
      refine r_aload_n (j := 0) B dX5_readOrder_218 rfl rfl ?_
      refine r_iconst (v := 1) B dX5_readOrder_219 (by decide) ?_
      obtain ⟨r12, s13, hc14, h⟩ := bnd_e h
      refine r_callV0 (As := [vi (1 : Int32)]) (rest := []) B rfl rfl EX.same (c_X5_readExpression B.ge hS hc14) (cw_X5_readExpression rfl rfl) (fun z => RV.of 5 ((fun z => by rw [(hS _ z).1 0 (by decide)]; rfl) z) rfl rfl qs71) q1899 q1901 rfl dX5_readOrder_220 ?_
      exact w_X5_readOrder_223 B hS s13 x2 h
set_option maxHeartbeats 4000000 in
noncomputable def F_X5_readOrder_137 (s : St) (x2 : Int32) : Option (Unit × St) := gd (inb (x2 + (7 : Int32)) 96) <| nam (setI s 27 (x2 + (7 : Int32)).toNatClampNeg (1 : Int32)) fun s2 => if (si s2 0 20) = 0 then (bnd (F_X5_isWord s2 (21279923 : Int64)) fun r5 s6 => if r5 = 0 then (F_X5_readOrder_185 s6 x2) else (bnd (F_X5_next s6) fun _ s10 => bnd (F_X5_number s10 (1 : Int64) (20 : Int64)) fun r12 s13 => gd (inb (x2 + (7 : Int32)) 96) <| nam (setI s13 27 (x2 + (7 : Int32)).toNatClampNeg r12) fun s16 => F_X5_readOrder_185 s16 x2)) else (F_X5_readOrder_185 s2 x2)
set_option maxHeartbeats 4000000 in
theorem w_X5_readOrder_137 {X : CX} {E : EV} {a0 s' : St} {r : Unit} (B : FX X E cX5_readOrder 3 none "RoseThrowModel" "readOrder" (sn a0) (ss a0) 8 172) (hS : ∀ σ, eSk E σ → SkM σ) (s : St) (x2 : Int32) (h : F_X5_readOrder_137   s x2 = some (r, s')) : J X E (sn a0) (ss a0) 3 (QR X E a0 none s') s 137 [(0, vr (some 0)), (2, vi x2)] [] := by
  unfold F_X5_readOrder_137 at h
  refine r_aload_n (j := 0) B dX5_readOrder_137 rfl rfl ?_
  refine g5 (k := 58) B (vr (some 27)) rfl (fun z => by rw [(hS _ z).1 0 (by decide)]; rfl) rfl q1575 rfl (fun z => by rw [(hS _ z).2 _ (List.mem_of_getElem? (i := 26) rfl)]; rfl) dX5_readOrder_138 ?_
  refine r_iload_n (j := 1) B dX5_readOrder_141 rfl rfl ?_
  refine r_bipush (v := 7) B dX5_readOrder_142 (by decide) ?_
  refine r_iadd B dX5_readOrder_144 ?_
  refine r_iconst (v := 1) B dX5_readOrder_145 (by decide) ?_
  obtain ⟨hg1, h⟩ := gd_e h
  obtain ⟨s2, e3, h⟩ := nam_e h
  refine r_iast B e3 rfl (fun z => (hS _ z).1 27 (by decide)) hg1 dX5_readOrder_146 ?_
  refine r_aload_n (j := 0) B dX5_readOrder_147 rfl rfl ?_
  refine g5 (k := 20) B (vi (si s2 0 20)) rfl (fun z => by rw [(hS _ z).1 0 (by decide)]; rfl) rfl q1537 rfl (fun _ => rfl) dX5_readOrder_148 ?_
  refine r_if_ne (tgt := 185) B dX5_readOrder_151 (by decide) (fun cn4 => ?_) (fun cn4 => ?_)
  · have h := of cn4 h
    exact w_X5_readOrder_185 B hS s2 x2 h
  · have h := ot cn4 h
    refine r_aload_n (j := 0) B dX5_readOrder_154 rfl rfl ?_
    refine r_ldc2 B dX5_readOrder_155 q2196 ?_
    obtain ⟨r5, s6, hc7, h⟩ := bnd_e h
    refine r_callVv (As := [vl (21279923 : Int64)]) (rest := []) B rfl rfl EX.same (c_X5_isWord B.ge hS hc7) (cw_X5_isWord rfl rfl) (fun z => RV.of 5 ((fun z => by rw [(hS _ z).1 0 (by decide)]; rfl) z) rfl rfl qs69) q1891 q1893 rfl dX5_readOrder_158 ?_
    refine r_if_eq (tgt := 185) B dX5_readOrder_161 (by decide) (fun cn8 => ?_) (fun cn8 => ?_)
    · have h := ot cn8 h
      exact w_X5_readOrder_185 B hS s6 x2 h
    · have h := of cn8 h
      refine r_aload_n (j := 0) B dX5_readOrder_164 rfl rfl ?_
      obtain ⟨r9, s10, hc11, h⟩ := bnd_e h
      refine r_callV0 (As := []) (rest := []) B rfl rfl EX.same (c_X5_next B.ge hS hc11) (cw_X5_next rfl rfl) (fun z => RV.of 5 ((fun z => by rw [(hS _ z).1 0 (by decide)]; rfl) z) rfl rfl qs67) q1872 q1874 rfl dX5_readOrder_165 ?_
      refine r_aload_n (j := 0) B dX5_readOrder_168 rfl rfl ?_
      refine g5 (k := 58) B (vr (some 27)) rfl (fun z => by rw [(hS _ z).1 0 (by decide)]; rfl) rfl q1575 rfl (fun z => by rw [(hS _ z).2 _ (List.mem_of_getElem? (i := 26) rfl)]; rfl) dX5_readOrder_169 ?_
      refine r_iload_n (j := 1) B dX5_readOrder_172 rfl rfl ?_
      refine r_bipush (v := 7) B dX5_readOrder_173 (by decide) ?_
      refine r_iadd B dX5_readOrder_175 ?_
      refine r_aload_n (j := 0) B dX5_readOrder_176 rfl rfl ?_
      refine r_lconst (v := 1) B dX5_readOrder_177 (by decide) ?_
      refine r_ldc2 B dX5_readOrder_178 q1964 ?_
      obtain ⟨r12, s13, hc14, h⟩ := bnd_e h
      refine r_callVv (As := [vl (1 : Int64), vl (20 : Int64)]) (rest := [vi (x2 + (7 : Int32)), vr (some 27)]) B rfl rfl EX.same (c_X5_number B.ge hS hc14) (cw_X5_number rfl rfl) (fun z => RV.of 5 ((fun z => by rw [(hS _ z).1 0 (by decide)]; rfl) z) rfl rfl qs81) q1941 q1943 rfl dX5_readOrder_181 ?_
      obtain ⟨hg15, h⟩ := gd_e h
      obtain ⟨s16, e17, h⟩ := nam_e h
      refine r_iast B e17 rfl (fun z => (hS _ z).1 27 (by decide)) hg15 dX5_readOrder_184 ?_
      exact w_X5_readOrder_185 B hS s16 x2 h
set_option maxHeartbeats 4000000 in
noncomputable def F_X5_readOrder_130 (s : St) (x2 : Int32) : Option (Unit × St) := bnd (F_X5_readSum s (x2 + (3 : Int32))) fun _ s2 => F_X5_readOrder_137 s2 x2
set_option maxHeartbeats 4000000 in
theorem w_X5_readOrder_130 {X : CX} {E : EV} {a0 s' : St} {r : Unit} (B : FX X E cX5_readOrder 3 none "RoseThrowModel" "readOrder" (sn a0) (ss a0) 8 172) (hS : ∀ σ, eSk E σ → SkM σ) (s : St) (x2 : Int32) (h : F_X5_readOrder_130   s x2 = some (r, s')) : J X E (sn a0) (ss a0) 3 (QR X E a0 none s') s 130 [(0, vr (some 0)), (2, vi x2)] [] := by
  unfold F_X5_readOrder_130 at h
  refine r_aload_n (j := 0) B dX5_readOrder_130 rfl rfl ?_
  refine r_iload_n (j := 1) B dX5_readOrder_131 rfl rfl ?_
  refine r_iconst (v := 3) B dX5_readOrder_132 (by decide) ?_
  refine r_iadd B dX5_readOrder_133 ?_
  obtain ⟨r1, s2, hc3, h⟩ := bnd_e h
  refine r_callV0 (As := [vi (x2 + (3 : Int32))]) (rest := []) B rfl rfl EX.same (c_X5_readSum B.ge hS hc3) (cw_X5_readSum rfl rfl) (fun z => RV.of 5 ((fun z => by rw [(hS _ z).1 0 (by decide)]; rfl) z) rfl rfl qs117) q2191 q2193 rfl dX5_readOrder_134 ?_
  exact w_X5_readOrder_137 B hS s2 x2 h
set_option maxHeartbeats 4000000 in
noncomputable def F_X5_readOrder_64 (s : St) (x1 : Int32) (z0 : Int32) : Option (Unit × St) := bnd (F_X5_must s z0) fun _ s2 => if (si s2 0 20) = 0 then (nam (setI s2 0 22 ((si s2 0 22) + (1 : Int32))) fun s5 => gd (inb ((8 : Int32) * (si s2 0 22)) 96) <| nam (setI s5 27 ((8 : Int32) * (si s2 0 22)).toNatClampNeg x1) fun s8 => if x1 = (2 : Int32) then (F_X5_readOrder_137 s8 ((8 : Int32) * (si s2 0 22))) else (bnd (F_X5_readSum s8 (((8 : Int32) * (si s2 0 22)) + (1 : Int32))) fun _ s12 => if (si s12 0 20) = 0 then (bnd (F_X5_isWord s12 (52 : Int64)) fun r15 s16 => bnd (F_X5_must s16 r15) fun _ s19 => F_X5_readOrder_130 s19 ((8 : Int32) * (si s2 0 22))) else (F_X5_readOrder_130 s12 ((8 : Int32) * (si s2 0 22))))) else (some ((), s2))
set_option maxHeartbeats 4000000 in
theorem w_X5_readOrder_64 {X : CX} {E : EV} {a0 s' : St} {r : Unit} (B : FX X E cX5_readOrder 3 none "RoseThrowModel" "readOrder" (sn a0) (ss a0) 8 172) (hS : ∀ σ, eSk E σ → SkM σ) (s : St) (x1 : Int32) (z0 : Int32) (h : F_X5_readOrder_64   s x1 z0 = some (r, s')) : J X E (sn a0) (ss a0) 3 (QR X E a0 none s') s 64 [(0, vr (some 0)), (1, vi x1)] [vi z0, vr (some 0)] := by
  unfold F_X5_readOrder_64 at h
  obtain ⟨r1, s2, hc3, h⟩ := bnd_e h
  refine r_callV0 (As := [vi z0]) (rest := []) B rfl rfl EX.same (c_X5_must B.ge hS hc3) (cw_X5_must rfl rfl) (fun z => RV.of 5 ((fun z => by rw [(hS _ z).1 0 (by decide)]; rfl) z) rfl rfl qs70) q1895 q1897 rfl dX5_readOrder_64 ?_
  refine r_aload_n (j := 0) B dX5_readOrder_67 rfl rfl ?_
  refine g5 (k := 20) B (vi (si s2 0 20)) rfl (fun z => by rw [(hS _ z).1 0 (by decide)]; rfl) rfl q1537 rfl (fun _ => rfl) dX5_readOrder_68 ?_
  refine r_if_eq (tgt := 75) B dX5_readOrder_71 (by decide) (fun cn4 => ?_) (fun cn4 => ?_)
  · have h := ot cn4 h
    refine r_bipush (v := 8) B dX5_readOrder_75 (by decide) ?_
    refine r_aload_n (j := 0) B dX5_readOrder_77 rfl rfl ?_
    refine g5 (k := 22) B (vi (si s2 0 22)) rfl (fun z => by rw [(hS _ z).1 0 (by decide)]; rfl) rfl q1539 rfl (fun _ => rfl) dX5_readOrder_78 ?_
    refine r_imul B dX5_readOrder_81 ?_
    refine r_istore_n (L' := [(0, vr (some 0)), (1, vi x1), (2, vi ((8 : Int32) * (si s2 0 22)))]) B dX5_readOrder_82 rfl (by decide) rfl rfl rfl ?_
    refine r_aload_n (j := 0) B dX5_readOrder_83 rfl rfl ?_
    refine r_dup B dX5_readOrder_84 rfl ?_
    refine g5 (k := 22) B (vi (si s2 0 22)) rfl (fun z => by rw [(hS _ z).1 0 (by decide)]; rfl) rfl q1539 rfl (fun _ => rfl) dX5_readOrder_85 ?_
    refine r_iconst (v := 1) B dX5_readOrder_88 (by decide) ?_
    refine r_iadd B dX5_readOrder_89 ?_
    obtain ⟨s5, e6, h⟩ := nam_e h
    refine pI5 (k := 22) B e6 rfl (fun z => by rw [(hS _ z).1 0 (by decide)]; rfl) rfl q1539 rfl rfl (fun _ _ _ => rfl) rfl dX5_readOrder_90 ?_
    refine r_aload_n (j := 0) B dX5_readOrder_93 rfl rfl ?_
    refine g5 (k := 58) B (vr (some 27)) rfl (fun z => by rw [(hS _ z).1 0 (by decide)]; rfl) rfl q1575 rfl (fun z => by rw [(hS _ z).2 _ (List.mem_of_getElem? (i := 26) rfl)]; rfl) dX5_readOrder_94 ?_
    refine r_iload_n (j := 2) B dX5_readOrder_97 rfl rfl ?_
    refine r_iload_n (j := 1) B dX5_readOrder_98 rfl rfl ?_
    obtain ⟨hg7, h⟩ := gd_e h
    obtain ⟨s8, e9, h⟩ := nam_e h
    refine r_iast B e9 rfl (fun z => (hS _ z).1 27 (by decide)) hg7 dX5_readOrder_99 ?_
    refine r_iload_n (j := 1) B dX5_readOrder_100 rfl rfl ?_
    refine r_iconst (v := 2) B dX5_readOrder_101 (by decide) ?_
    refine r_ic_eq (tgt := 137) B dX5_readOrder_102 (by decide) (fun cn10 => ?_) (fun cn10 => ?_)
    · have h := ot cn10 h
      refine r_pick [0, 2] (L' := [(0, vr (some 0)), (2, vi ((8 : Int32) * (si s2 0 22)))]) rfl ?_
      exact w_X5_readOrder_137 B hS s8 ((8 : Int32) * (si s2 0 22)) h
    · have h := of cn10 h
      refine r_aload_n (j := 0) B dX5_readOrder_105 rfl rfl ?_
      refine r_iload_n (j := 2) B dX5_readOrder_106 rfl rfl ?_
      refine r_iconst (v := 1) B dX5_readOrder_107 (by decide) ?_
      refine r_iadd B dX5_readOrder_108 ?_
      obtain ⟨r11, s12, hc13, h⟩ := bnd_e h
      refine r_callV0 (As := [vi (((8 : Int32) * (si s2 0 22)) + (1 : Int32))]) (rest := []) B rfl rfl EX.same (c_X5_readSum B.ge hS hc13) (cw_X5_readSum rfl rfl) (fun z => RV.of 5 ((fun z => by rw [(hS _ z).1 0 (by decide)]; rfl) z) rfl rfl qs117) q2191 q2193 rfl dX5_readOrder_109 ?_
      refine r_aload_n (j := 0) B dX5_readOrder_112 rfl rfl ?_
      refine g5 (k := 20) B (vi (si s12 0 20)) rfl (fun z => by rw [(hS _ z).1 0 (by decide)]; rfl) rfl q1537 rfl (fun _ => rfl) dX5_readOrder_113 ?_
      refine r_if_ne (tgt := 130) B dX5_readOrder_116 (by decide) (fun cn14 => ?_) (fun cn14 => ?_)
      · have h := of cn14 h
        refine r_pick [0, 2] (L' := [(0, vr (some 0)), (2, vi ((8 : Int32) * (si s2 0 22)))]) rfl ?_
        exact w_X5_readOrder_130 B hS s12 ((8 : Int32) * (si s2 0 22)) h
      · have h := ot cn14 h
        refine r_aload_n (j := 0) B dX5_readOrder_119 rfl rfl ?_
        refine r_aload_n (j := 0) B dX5_readOrder_120 rfl rfl ?_
        refine r_ldc2 B dX5_readOrder_121 q2195 ?_
        obtain ⟨r15, s16, hc17, h⟩ := bnd_e h
        refine r_callVv (As := [vl (52 : Int64)]) (rest := [vr (some 0)]) B rfl rfl EX.same (c_X5_isWord B.ge hS hc17) (cw_X5_isWord rfl rfl) (fun z => RV.of 5 ((fun z => by rw [(hS _ z).1 0 (by decide)]; rfl) z) rfl rfl qs69) q1891 q1893 rfl dX5_readOrder_124 ?_
        obtain ⟨r18, s19, hc20, h⟩ := bnd_e h
        refine r_callV0 (As := [vi r15]) (rest := []) B rfl rfl EX.same (c_X5_must B.ge hS hc20) (cw_X5_must rfl rfl) (fun z => RV.of 5 ((fun z => by rw [(hS _ z).1 0 (by decide)]; rfl) z) rfl rfl qs70) q1895 q1897 rfl dX5_readOrder_127 ?_
        refine r_pick [0, 2] (L' := [(0, vr (some 0)), (2, vi ((8 : Int32) * (si s2 0 22)))]) rfl ?_
        exact w_X5_readOrder_130 B hS s19 ((8 : Int32) * (si s2 0 22)) h
  · have h := of cn4 h
    exact r_vret B dX5_readOrder_74 h
set_option maxHeartbeats 4000000 in
noncomputable def F_X5_readOrder_63 (s : St) (x1 : Int32) : Option (Unit × St) := F_X5_readOrder_64 s x1 (0 : Int32)
set_option maxHeartbeats 4000000 in
theorem w_X5_readOrder_63 {X : CX} {E : EV} {a0 s' : St} {r : Unit} (B : FX X E cX5_readOrder 3 none "RoseThrowModel" "readOrder" (sn a0) (ss a0) 8 172) (hS : ∀ σ, eSk E σ → SkM σ) (s : St) (x1 : Int32) (h : F_X5_readOrder_63   s x1 = some (r, s')) : J X E (sn a0) (ss a0) 3 (QR X E a0 none s') s 63 [(0, vr (some 0)), (1, vi x1)] [vr (some 0)] := by
  unfold F_X5_readOrder_63 at h
  refine r_iconst (v := 0) B dX5_readOrder_63 (by decide) ?_
  exact w_X5_readOrder_64 B hS s x1 (0 : Int32) h
set_option maxHeartbeats 4000000 in
noncomputable def F_X5_readOrder_43 (s : St) (z0 : Int32) : Option (Unit × St) := if z0 = (-1 : Int32) then (F_X5_readOrder_63 s z0) else (if (12 : Int32) ≤ (si s 0 22) then (F_X5_readOrder_63 s z0) else (F_X5_readOrder_64 s z0 (1 : Int32)))
set_option maxHeartbeats 4000000 in
theorem w_X5_readOrder_43 {X : CX} {E : EV} {a0 s' : St} {r : Unit} (B : FX X E cX5_readOrder 3 none "RoseThrowModel" "readOrder" (sn a0) (ss a0) 8 172) (hS : ∀ σ, eSk E σ → SkM σ) (s : St) (z0 : Int32) (h : F_X5_readOrder_43   s z0 = some (r, s')) : J X E (sn a0) (ss a0) 3 (QR X E a0 none s') s 43 [(0, vr (some 0))] [vi z0] := by
  unfold F_X5_readOrder_43 at h
  refine r_istore_n (L' := [(0, vr (some 0)), (1, vi z0)]) B dX5_readOrder_43 rfl (by decide) rfl rfl rfl ?_
  refine r_aload_n (j := 0) B dX5_readOrder_44 rfl rfl ?_
  refine r_iload_n (j := 1) B dX5_readOrder_45 rfl rfl ?_
  refine r_iconst (v := -1) B dX5_readOrder_46 (by decide) ?_
  refine r_ic_eq (tgt := 63) B dX5_readOrder_47 (by decide) (fun cn1 => ?_) (fun cn1 => ?_)
  · have h := ot cn1 h
    exact w_X5_readOrder_63 B hS s z0 h
  · have h := of cn1 h
    refine r_aload_n (j := 0) B dX5_readOrder_50 rfl rfl ?_
    refine g5 (k := 22) B (vi (si s 0 22)) rfl (fun z => by rw [(hS _ z).1 0 (by decide)]; rfl) rfl q1539 rfl (fun _ => rfl) dX5_readOrder_51 ?_
    refine r_bipush (v := 12) B dX5_readOrder_54 (by decide) ?_
    refine r_ic_ge (tgt := 63) B dX5_readOrder_56 (by decide) (fun cn2 => ?_) (fun cn2 => ?_)
    · have h := ot cn2 h
      exact w_X5_readOrder_63 B hS s z0 h
    · have h := of cn2 h
      refine r_iconst (v := 1) B dX5_readOrder_59 (by decide) ?_
      refine r_goto (tgt := 64) B dX5_readOrder_60 (by decide) ?_
      exact w_X5_readOrder_64 B hS s z0 (1 : Int32) h
set_option maxHeartbeats 4000000 in
noncomputable def F_X5_readOrder (s : St)  : Option (Unit × St) := bnd (F_X5_isWord s (239 : Int64)) fun r1 s2 => if r1 = 0 then (bnd (F_X5_isWord s2 (2328139461 : Int64)) fun r5 s6 => if r5 = 0 then (bnd (F_X5_isWord s6 (611944 : Int64)) fun r9 s10 => if r9 = 0 then (F_X5_readOrder_43 s10 (-1 : Int32)) else (F_X5_readOrder_43 s10 (2 : Int32))) else (F_X5_readOrder_43 s6 (1 : Int32))) else (F_X5_readOrder_43 s2 (0 : Int32))
set_option maxHeartbeats 4000000 in
theorem c_X5_readOrder {l : Launch} {E : EV} (hE : GE E) (hS : ∀ σ, eSk E σ → SkM σ) {s s' : St} {r : Unit}  (h : F_X5_readOrder  s  = some (r, s')) : CT l E yX5_readOrder cX5_readOrder 3 none 8 172 [vr (some 0)] s none s' := by
  refine CT.start hE (by decide) rfl [(0, vr (some 0))] rfl (fun X hX B => ?_)
  skip
  have B : FX X E cX5_readOrder 3 none "RoseThrowModel" "readOrder" (sn s) (ss s) 8 172 := B
  unfold F_X5_readOrder at h
  refine r_aload_n (j := 0) B dX5_readOrder_0 rfl rfl ?_
  refine r_ldc2 B dX5_readOrder_1 q2188 ?_
  obtain ⟨r1, s2, hc3, h⟩ := bnd_e h
  refine r_callVv (As := [vl (239 : Int64)]) (rest := []) B rfl rfl EX.same (c_X5_isWord B.ge hS hc3) (cw_X5_isWord rfl rfl) (fun z => RV.of 5 ((fun z => by rw [(hS _ z).1 0 (by decide)]; rfl) z) rfl rfl qs69) q1891 q1893 rfl dX5_readOrder_4 ?_
  refine r_if_eq (tgt := 14) B dX5_readOrder_7 (by decide) (fun cn4 => ?_) (fun cn4 => ?_)
  · have h := ot cn4 h
    refine r_aload_n (j := 0) B dX5_readOrder_14 rfl rfl ?_
    refine r_ldc2 B dX5_readOrder_15 q2189 ?_
    obtain ⟨r5, s6, hc7, h⟩ := bnd_e h
    refine r_callVv (As := [vl (2328139461 : Int64)]) (rest := []) B rfl rfl EX.same (c_X5_isWord B.ge hS hc7) (cw_X5_isWord rfl rfl) (fun z => RV.of 5 ((fun z => by rw [(hS _ z).1 0 (by decide)]; rfl) z) rfl rfl qs69) q1891 q1893 rfl dX5_readOrder_18 ?_
    refine r_if_eq (tgt := 28) B dX5_readOrder_21 (by decide) (fun cn8 => ?_) (fun cn8 => ?_)
    · have h := ot cn8 h
      refine r_aload_n (j := 0) B dX5_readOrder_28 rfl rfl ?_
      refine r_ldc2 B dX5_readOrder_29 q2190 ?_
      obtain ⟨r9, s10, hc11, h⟩ := bnd_e h
      refine r_callVv (As := [vl (611944 : Int64)]) (rest := []) B rfl rfl EX.same (c_X5_isWord B.ge hS hc11) (cw_X5_isWord rfl rfl) (fun z => RV.of 5 ((fun z => by rw [(hS _ z).1 0 (by decide)]; rfl) z) rfl rfl qs69) q1891 q1893 rfl dX5_readOrder_32 ?_
      refine r_if_eq (tgt := 42) B dX5_readOrder_35 (by decide) (fun cn12 => ?_) (fun cn12 => ?_)
      · have h := ot cn12 h
        refine r_iconst (v := -1) B dX5_readOrder_42 (by decide) ?_
        exact w_X5_readOrder_43 B hS s10 (-1 : Int32) h
      · have h := of cn12 h
        refine r_iconst (v := 2) B dX5_readOrder_38 (by decide) ?_
        refine r_goto (tgt := 43) B dX5_readOrder_39 (by decide) ?_
        exact w_X5_readOrder_43 B hS s10 (2 : Int32) h
    · have h := of cn8 h
      refine r_iconst (v := 1) B dX5_readOrder_24 (by decide) ?_
      refine r_goto (tgt := 43) B dX5_readOrder_25 (by decide) ?_
      exact w_X5_readOrder_43 B hS s6 (1 : Int32) h
  · have h := of cn4 h
    refine r_iconst (v := 0) B dX5_readOrder_10 (by decide) ?_
    refine r_goto (tgt := 43) B dX5_readOrder_11 (by decide) ?_
    exact w_X5_readOrder_43 B hS s2 (0 : Int32) h
set_option maxHeartbeats 4000000 in
theorem cw_X5_readOrder {X : CX} {fr lo : Nat} (h1 : Nat.ble (8 + 1) fr = true) (h2 : Nat.ble (22 + 172) lo = true) : CW X fr lo yX5_readOrder cX5_readOrder 3 none 8 172 0 := ⟨q2187, q136, ⟨by decide +kernel, by decide +kernel, by decide +kernel⟩, Nat.le_of_ble_eq_true h1, Nat.le_of_ble_eq_true h2⟩

set_option maxHeartbeats 4000000 in
noncomputable def F_X5_sumOf (s : St) (p0 : Int32) : Option (Int64 × St) := if (si s 0 62) = 0 then (nam (setI s 0 21 (1 : Int32)) fun s2 => gd (inb p0 96) <| gd (inb (p0 + (1 : Int32)) 96) <| bnd (F_X5_reckonAll s2 (si s2 27 p0.toNatClampNeg) (si s2 27 (p0 + (1 : Int32)).toNatClampNeg)) fun _ s7 => nam (setI s7 0 21 (0 : Int32)) fun s9 => gd (fits .boolean (.int (si s9 0 39))) <| nam (setI s9 0 62 (si s9 0 39)) fun s12 => some ((sl s12 0 40), s12)) else (some ((0 : Int64), s))
set_option maxHeartbeats 4000000 in
theorem c_X5_sumOf {l : Launch} {E : EV} (hE : GE E) (hS : ∀ σ, eSk E σ → SkM σ) {s s' : St} {r : Int64} {p0 : Int32} (h : F_X5_sumOf  s p0 = some (r, s')) : CT l E yX5_sumOf cX5_sumOf 2 (some .long) 3 72 [vr (some 0), vi p0] s (some (vl r)) s' := by
  refine CT.start hE (by decide) rfl [(0, vr (some 0)), (1, vi p0)] rfl (fun X hX B => ?_)
  skip
  have B : FX X E cX5_sumOf 2 (some .long) "RoseThrowModel" "sumOf" (sn s) (ss s) 3 72 := B
  unfold F_X5_sumOf at h
  refine r_aload_n (j := 0) B dX5_sumOf_0 rfl rfl ?_
  refine g5 (k := 62) B (vi (si s 0 62)) rfl (fun z => by rw [(hS _ z).1 0 (by decide)]; rfl) rfl q1579 rfl (fun _ => rfl) dX5_sumOf_1 ?_
  refine r_if_eq (tgt := 9) B dX5_sumOf_4 (by decide) (fun cn1 => ?_) (fun cn1 => ?_)
  · have h := ot cn1 h
    refine r_aload_n (j := 0) B dX5_sumOf_9 rfl rfl ?_
    refine r_iconst (v := 1) B dX5_sumOf_10 (by decide) ?_
    obtain ⟨s2, e3, h⟩ := nam_e h
    refine pI5 (k := 21) B e3 rfl (fun z => by rw [(hS _ z).1 0 (by decide)]; rfl) rfl q1538 rfl rfl (fun _ _ _ => rfl) (by decide) dX5_sumOf_11 ?_
    refine r_aload_n (j := 0) B dX5_sumOf_14 rfl rfl ?_
    refine r_aload_n (j := 0) B dX5_sumOf_15 rfl rfl ?_
    refine g5 (k := 58) B (vr (some 27)) rfl (fun z => by rw [(hS _ z).1 0 (by decide)]; rfl) rfl q1575 rfl (fun z => by rw [(hS _ z).2 _ (List.mem_of_getElem? (i := 26) rfl)]; rfl) dX5_sumOf_16 ?_
    refine r_iload_n (j := 1) B dX5_sumOf_19 rfl rfl ?_
    obtain ⟨hg4, h⟩ := gd_e h
    refine r_iald B rfl (fun z => (hS _ z).1 27 (by decide)) hg4 dX5_sumOf_20 ?_
    refine r_aload_n (j := 0) B dX5_sumOf_21 rfl rfl ?_
    refine g5 (k := 58) B (vr (some 27)) rfl (fun z => by rw [(hS _ z).1 0 (by decide)]; rfl) rfl q1575 rfl (fun z => by rw [(hS _ z).2 _ (List.mem_of_getElem? (i := 26) rfl)]; rfl) dX5_sumOf_22 ?_
    refine r_iload_n (j := 1) B dX5_sumOf_25 rfl rfl ?_
    refine r_iconst (v := 1) B dX5_sumOf_26 (by decide) ?_
    refine r_iadd B dX5_sumOf_27 ?_
    obtain ⟨hg5, h⟩ := gd_e h
    refine r_iald B rfl (fun z => (hS _ z).1 27 (by decide)) hg5 dX5_sumOf_28 ?_
    obtain ⟨r6, s7, hc8, h⟩ := bnd_e h
    refine r_callV0 (As := [vi (si s2 27 p0.toNatClampNeg), vi (si s2 27 (p0 + (1 : Int32)).toNatClampNeg)]) (rest := []) B rfl rfl EX.same (c_X5_reckonAll B.ge hS hc8) (cw_X5_reckonAll rfl rfl) (fun z => RV.of 5 ((fun z => by rw [(hS _ z).1 0 (by decide)]; rfl) z) rfl rfl qs59) q1795 q1797 rfl dX5_sumOf_29 ?_
    refine r_aload_n (j := 0) B dX5_sumOf_32 rfl rfl ?_
    refine r_iconst (v := 0) B dX5_sumOf_33 (by decide) ?_
    obtain ⟨s9, e10, h⟩ := nam_e h
    refine pI5 (k := 21) B e10 rfl (fun z => by rw [(hS _ z).1 0 (by decide)]; rfl) rfl q1538 rfl rfl (fun _ _ _ => rfl) (by decide) dX5_sumOf_34 ?_
    refine r_aload_n (j := 0) B dX5_sumOf_37 rfl rfl ?_
    refine r_aload_n (j := 0) B dX5_sumOf_38 rfl rfl ?_
    refine g5 (k := 39) B (vi (si s9 0 39)) rfl (fun z => by rw [(hS _ z).1 0 (by decide)]; rfl) rfl q1556 rfl (fun _ => rfl) dX5_sumOf_39 ?_
    obtain ⟨hg11, h⟩ := gd_e h
    obtain ⟨s12, e13, h⟩ := nam_e h
    refine pI5 (k := 62) B e13 rfl (fun z => by rw [(hS _ z).1 0 (by decide)]; rfl) rfl q1579 rfl rfl (fun _ _ _ => rfl) hg11 dX5_sumOf_42 ?_
    refine r_aload_n (j := 0) B dX5_sumOf_45 rfl rfl ?_
    refine g5 (k := 40) B (vl (sl s12 0 40)) rfl (fun z => by rw [(hS _ z).1 0 (by decide)]; rfl) rfl q1557 rfl (fun _ => rfl) dX5_sumOf_46 ?_
    exact r_lret B dX5_sumOf_49 h
  · have h := of cn1 h
    refine r_lconst (v := 0) B dX5_sumOf_7 (by decide) ?_
    exact r_lret B dX5_sumOf_8 h
set_option maxHeartbeats 4000000 in
theorem cw_X5_sumOf {X : CX} {fr lo : Nat} (h1 : Nat.ble (3 + 1) fr = true) (h2 : Nat.ble (21 + 72) lo = true) : CW X fr lo yX5_sumOf cX5_sumOf 2 (some .long) 3 72 1 := ⟨q2204, q136, ⟨by decide +kernel, by decide +kernel, by decide +kernel⟩, Nat.le_of_ble_eq_true h1, Nat.le_of_ble_eq_true h2⟩

set_option maxHeartbeats 4000000 in
noncomputable def F_X5_run_199 (s : St)  : Option (Int32 × St) := nam (setI s 0 59 ((si s 0 59) + (1 : Int32))) fun s1 => some ((0 : Int32), s1)
set_option maxHeartbeats 4000000 in
theorem w_X5_run_199 {X : CX} {E : EV} {a0 s' : St} {r : Int32} (B : FX X E cX5_run 5 (some .int) "RoseThrowModel" "run" (sn a0) (ss a0) 9 215) (hS : ∀ σ, eSk E σ → SkM σ) (s : St)  (h : F_X5_run_199   s  = some (r, s')) : J X E (sn a0) (ss a0) 5 (QR X E a0 (some (vi r)) s') s 199 [(0, vr (some 0))] [] := by
  unfold F_X5_run_199 at h
  refine r_aload_n (j := 0) B dX5_run_199 rfl rfl ?_
  refine r_dup B dX5_run_200 rfl ?_
  refine g5 (k := 59) B (vi (si s 0 59)) rfl (fun z => by rw [(hS _ z).1 0 (by decide)]; rfl) rfl q1576 rfl (fun _ => rfl) dX5_run_201 ?_
  refine r_iconst (v := 1) B dX5_run_204 (by decide) ?_
  refine r_iadd B dX5_run_205 ?_
  obtain ⟨s1, e2, h⟩ := nam_e h
  refine pI5 (k := 59) B e2 rfl (fun z => by rw [(hS _ z).1 0 (by decide)]; rfl) rfl q1576 rfl rfl (fun _ _ _ => rfl) rfl dX5_run_206 ?_
  refine r_iconst (v := 0) B dX5_run_209 (by decide) ?_
  exact r_iret B dX5_run_210 h
set_option maxHeartbeats 4000000 in
noncomputable def F_X5_run_165 (s : St) (x1 : Int32) (x2 : Int32) (x3 : Int32) (z0 : Int32) : Option (Int32 × St) := if 0 ≤ z0 then (gd (inb x1 96) <| if (si s 27 x1.toNatClampNeg) = (1 : Int32) then (gd (inb (((13 : Int32) + ((5 : Int32) * x2)) + (4 : Int32)) 5460) <| nam (setI s 2 (((13 : Int32) + ((5 : Int32) * x2)) + (4 : Int32)).toNatClampNeg x3) fun s5 => F_X5_run_199 s5) else (F_X5_run_199 s)) else (some ((-3 : Int32), s))
set_option maxHeartbeats 4000000 in
theorem w_X5_run_165 {X : CX} {E : EV} {a0 s' : St} {r : Int32} (B : FX X E cX5_run 5 (some .int) "RoseThrowModel" "run" (sn a0) (ss a0) 9 215) (hS : ∀ σ, eSk E σ → SkM σ) (s : St) (x1 : Int32) (x2 : Int32) (x3 : Int32) (z0 : Int32) (h : F_X5_run_165   s x1 x2 x3 z0 = some (r, s')) : J X E (sn a0) (ss a0) 5 (QR X E a0 (some (vi r)) s') s 165 [(0, vr (some 0)), (1, vi x1), (2, vi x2), (3, vi x3)] [vi z0] := by
  unfold F_X5_run_165 at h
  refine r_istore (L' := [(0, vr (some 0)), (1, vi x1), (2, vi x2), (3, vi x3), (4, vi z0)]) B dX5_run_165 (by decide) rfl rfl rfl ?_
  refine r_iload (j := 4) B dX5_run_167 rfl ?_
  refine r_if_ge (tgt := 175) B dX5_run_169 (by decide) (fun cn1 => ?_) (fun cn1 => ?_)
  · have h := ot cn1 h
    refine r_aload_n (j := 0) B dX5_run_175 rfl rfl ?_
    refine g5 (k := 58) B (vr (some 27)) rfl (fun z => by rw [(hS _ z).1 0 (by decide)]; rfl) rfl q1575 rfl (fun z => by rw [(hS _ z).2 _ (List.mem_of_getElem? (i := 26) rfl)]; rfl) dX5_run_176 ?_
    refine r_iload_n (j := 1) B dX5_run_179 rfl rfl ?_
    obtain ⟨hg2, h⟩ := gd_e h
    refine r_iald B rfl (fun z => (hS _ z).1 27 (by decide)) hg2 dX5_run_180 ?_
    refine r_iconst (v := 1) B dX5_run_181 (by decide) ?_
    refine r_ic_ne (tgt := 199) B dX5_run_182 (by decide) (fun cn3 => ?_) (fun cn3 => ?_)
    · have h := of cn3 h
      refine r_pick [0] (L' := [(0, vr (some 0))]) rfl ?_
      exact w_X5_run_199 B hS s h
    · have h := ot cn3 h
      refine r_aload_n (j := 0) B dX5_run_185 rfl rfl ?_
      refine g5 (k := 3) B (vr (some 2)) rfl (fun z => by rw [(hS _ z).1 0 (by decide)]; rfl) rfl q1520 rfl (fun z => by rw [(hS _ z).2 _ (List.mem_of_getElem? (i := 1) rfl)]; rfl) dX5_run_186 ?_
      refine r_bipush (v := 13) B dX5_run_189 (by decide) ?_
      refine r_iconst (v := 5) B dX5_run_191 (by decide) ?_
      refine r_iload_n (j := 2) B dX5_run_192 rfl rfl ?_
      refine r_imul B dX5_run_193 ?_
      refine r_iadd B dX5_run_194 ?_
      refine r_iconst (v := 4) B dX5_run_195 (by decide) ?_
      refine r_iadd B dX5_run_196 ?_
      refine r_iload_n (j := 3) B dX5_run_197 rfl rfl ?_
      obtain ⟨hg4, h⟩ := gd_e h
      obtain ⟨s5, e6, h⟩ := nam_e h
      refine r_iast B e6 rfl (fun z => (hS _ z).1 2 (by decide)) hg4 dX5_run_198 ?_
      refine r_pick [0] (L' := [(0, vr (some 0))]) rfl ?_
      exact w_X5_run_199 B hS s5 h
  · have h := of cn1 h
    refine r_bipush (v := -3) B dX5_run_172 (by decide) ?_
    exact r_iret B dX5_run_174 h
set_option maxHeartbeats 4000000 in
noncomputable def F_X5_run_83 (s : St) (x1 : Int32) : Option (Int32 × St) := gd (inb x1 96) <| if (si s 27 x1.toNatClampNeg) = (2 : Int32) then (bnd (F_X5_rushNow s) fun r18 s19 => if 0 ≤ r18 then (nam (setI s19 0 60 r18) fun s22 => F_X5_run_199 s22) else (some ((-3 : Int32), s19))) else (bnd (F_X5_sumOf s (x1 + (1 : Int32))) fun r3 s4 => bnd (F_X5_sumOf s4 (x1 + (3 : Int32))) fun r6 s7 => if (si s7 0 62) = 0 then (gd (inb x1 96) <| if (si s7 27 x1.toNatClampNeg) = 0 then (bnd (F_X5_goNow s7 ((r3).toInt32) ((r6).toInt32)) fun r15 s16 => F_X5_run_165 s16 x1 ((r3).toInt32) ((r6).toInt32) r15) else (bnd (F_X5_cannotBelieve s7 ((r3).toInt32) ((r6).toInt32)) fun r12 s13 => F_X5_run_165 s13 x1 ((r3).toInt32) ((r6).toInt32) r12)) else (some ((-3 : Int32), s7)))
set_option maxHeartbeats 4000000 in
theorem w_X5_run_83 {X : CX} {E : EV} {a0 s' : St} {r : Int32} (B : FX X E cX5_run 5 (some .int) "RoseThrowModel" "run" (sn a0) (ss a0) 9 215) (hS : ∀ σ, eSk E σ → SkM σ) (s : St) (x1 : Int32) (h : F_X5_run_83   s x1 = some (r, s')) : J X E (sn a0) (ss a0) 5 (QR X E a0 (some (vi r)) s') s 83 [(0, vr (some 0)), (1, vi x1)] [] := by
  unfold F_X5_run_83 at h
  refine r_aload_n (j := 0) B dX5_run_83 rfl rfl ?_
  refine g5 (k := 58) B (vr (some 27)) rfl (fun z => by rw [(hS _ z).1 0 (by decide)]; rfl) rfl q1575 rfl (fun z => by rw [(hS _ z).2 _ (List.mem_of_getElem? (i := 26) rfl)]; rfl) dX5_run_84 ?_
  refine r_iload_n (j := 1) B dX5_run_87 rfl rfl ?_
  obtain ⟨hg1, h⟩ := gd_e h
  refine r_iald B rfl (fun z => (hS _ z).1 27 (by decide)) hg1 dX5_run_88 ?_
  refine r_iconst (v := 2) B dX5_run_89 (by decide) ?_
  refine r_ic_ne (tgt := 113) B dX5_run_90 (by decide) (fun cn2 => ?_) (fun cn2 => ?_)
  · have h := of cn2 h
    refine r_aload_n (j := 0) B dX5_run_113 rfl rfl ?_
    refine r_iload_n (j := 1) B dX5_run_114 rfl rfl ?_
    refine r_iconst (v := 1) B dX5_run_115 (by decide) ?_
    refine r_iadd B dX5_run_116 ?_
    obtain ⟨r3, s4, hc5, h⟩ := bnd_e h
    refine r_callVv (As := [vi (x1 + (1 : Int32))]) (rest := []) B rfl rfl EX.same (c_X5_sumOf B.ge hS hc5) (cw_X5_sumOf rfl rfl) (fun z => RV.of 5 ((fun z => by rw [(hS _ z).1 0 (by decide)]; rfl) z) rfl rfl qs119) q2201 q2203 rfl dX5_run_117 ?_
    refine r_l2i B dX5_run_120 ?_
    refine r_istore_n (L' := [(0, vr (some 0)), (1, vi x1), (2, vi ((r3).toInt32))]) B dX5_run_121 rfl (by decide) rfl rfl rfl ?_
    refine r_aload_n (j := 0) B dX5_run_122 rfl rfl ?_
    refine r_iload_n (j := 1) B dX5_run_123 rfl rfl ?_
    refine r_iconst (v := 3) B dX5_run_124 (by decide) ?_
    refine r_iadd B dX5_run_125 ?_
    obtain ⟨r6, s7, hc8, h⟩ := bnd_e h
    refine r_callVv (As := [vi (x1 + (3 : Int32))]) (rest := []) B rfl rfl EX.same (c_X5_sumOf B.ge hS hc8) (cw_X5_sumOf rfl rfl) (fun z => RV.of 5 ((fun z => by rw [(hS _ z).1 0 (by decide)]; rfl) z) rfl rfl qs119) q2201 q2203 rfl dX5_run_126 ?_
    refine r_l2i B dX5_run_129 ?_
    refine r_istore_n (L' := [(0, vr (some 0)), (1, vi x1), (2, vi ((r3).toInt32)), (3, vi ((r6).toInt32))]) B dX5_run_130 rfl (by decide) rfl rfl rfl ?_
    refine r_aload_n (j := 0) B dX5_run_131 rfl rfl ?_
    refine g5 (k := 62) B (vi (si s7 0 62)) rfl (fun z => by rw [(hS _ z).1 0 (by decide)]; rfl) rfl q1579 rfl (fun _ => rfl) dX5_run_132 ?_
    refine r_if_eq (tgt := 141) B dX5_run_135 (by decide) (fun cn9 => ?_) (fun cn9 => ?_)
    · have h := ot cn9 h
      refine r_aload_n (j := 0) B dX5_run_141 rfl rfl ?_
      refine g5 (k := 58) B (vr (some 27)) rfl (fun z => by rw [(hS _ z).1 0 (by decide)]; rfl) rfl q1575 rfl (fun z => by rw [(hS _ z).2 _ (List.mem_of_getElem? (i := 26) rfl)]; rfl) dX5_run_142 ?_
      refine r_iload_n (j := 1) B dX5_run_145 rfl rfl ?_
      obtain ⟨hg10, h⟩ := gd_e h
      refine r_iald B rfl (fun z => (hS _ z).1 27 (by decide)) hg10 dX5_run_146 ?_
      refine r_if_ne (tgt := 159) B dX5_run_147 (by decide) (fun cn11 => ?_) (fun cn11 => ?_)
      · have h := of cn11 h
        refine r_aload_n (j := 0) B dX5_run_159 rfl rfl ?_
        refine r_iload_n (j := 2) B dX5_run_160 rfl rfl ?_
        refine r_iload_n (j := 3) B dX5_run_161 rfl rfl ?_
        obtain ⟨r12, s13, hc14, h⟩ := bnd_e h
        refine r_callVv (As := [vi ((r3).toInt32), vi ((r6).toInt32)]) (rest := []) B rfl rfl EX.same (c_X5_cannotBelieve B.ge hS hc14) (cw_X5_cannotBelieve rfl rfl) (fun z => RV.of 5 ((fun z => by rw [(hS _ z).1 0 (by decide)]; rfl) z) rfl rfl qs113) q2164 q2166 rfl dX5_run_162 ?_
        exact w_X5_run_165 B hS s13 x1 ((r3).toInt32) ((r6).toInt32) r12 h
      · have h := ot cn11 h
        refine r_aload_n (j := 0) B dX5_run_150 rfl rfl ?_
        refine r_iload_n (j := 2) B dX5_run_151 rfl rfl ?_
        refine r_iload_n (j := 3) B dX5_run_152 rfl rfl ?_
        obtain ⟨r15, s16, hc17, h⟩ := bnd_e h
        refine r_callVv (As := [vi ((r3).toInt32), vi ((r6).toInt32)]) (rest := []) B rfl rfl EX.same (c_X5_goNow B.ge hS hc17) (cw_X5_goNow rfl rfl) (fun z => RV.of 5 ((fun z => by rw [(hS _ z).1 0 (by decide)]; rfl) z) rfl rfl qs111) q2152 q2154 rfl dX5_run_153 ?_
        refine r_goto (tgt := 165) B dX5_run_156 (by decide) ?_
        exact w_X5_run_165 B hS s16 x1 ((r3).toInt32) ((r6).toInt32) r15 h
    · have h := of cn9 h
      refine r_bipush (v := -3) B dX5_run_138 (by decide) ?_
      exact r_iret B dX5_run_140 h
  · have h := ot cn2 h
    refine r_aload_n (j := 0) B dX5_run_93 rfl rfl ?_
    obtain ⟨r18, s19, hc20, h⟩ := bnd_e h
    refine r_callVv (As := []) (rest := []) B rfl rfl EX.same (c_X5_rushNow B.ge hS hc20) (cw_X5_rushNow rfl rfl) (fun z => RV.of 5 ((fun z => by rw [(hS _ z).1 0 (by decide)]; rfl) z) rfl rfl qs114) q2172 q2174 rfl dX5_run_94 ?_
    refine r_istore_n (L' := [(0, vr (some 0)), (1, vi x1), (2, vi r18)]) B dX5_run_97 rfl (by decide) rfl rfl rfl ?_
    refine r_iload_n (j := 2) B dX5_run_98 rfl rfl ?_
    refine r_if_ge (tgt := 105) B dX5_run_99 (by decide) (fun cn21 => ?_) (fun cn21 => ?_)
    · have h := ot cn21 h
      refine r_aload_n (j := 0) B dX5_run_105 rfl rfl ?_
      refine r_iload_n (j := 2) B dX5_run_106 rfl rfl ?_
      obtain ⟨s22, e23, h⟩ := nam_e h
      refine pI5 (k := 60) B e23 rfl (fun z => by rw [(hS _ z).1 0 (by decide)]; rfl) rfl q1577 rfl rfl (fun _ _ _ => rfl) rfl dX5_run_107 ?_
      refine r_goto (tgt := 199) B dX5_run_110 (by decide) ?_
      refine r_pick [0] (L' := [(0, vr (some 0))]) rfl ?_
      exact w_X5_run_199 B hS s22 h
    · have h := of cn21 h
      refine r_bipush (v := -3) B dX5_run_102 (by decide) ?_
      exact r_iret B dX5_run_104 h
set_option maxHeartbeats 4000000 in
noncomputable def F_X5_run (s : St) (p0 : Int32) : Option (Int32 × St) := gd (inb (0 : Int32) 5460) <| gd (inb (1 : Int32) 13) <| nam (setL s 20 (1 : Int32).toNatClampNeg (((si s 2 (0 : Int32).toNatClampNeg)).toInt64)) fun s3 => gd (inb (2 : Int32) 13) <| nam (setL s3 20 (2 : Int32).toNatClampNeg (((si s3 0 59)).toInt64)) fun s6 => gd (inb (3 : Int32) 13) <| nam (setL s6 20 (3 : Int32).toNatClampNeg (((si s6 0 60)).toInt64)) fun s9 => nam (setI s9 0 62 (0 : Int32)) fun s11 => gd (inb (p0 + (5 : Int32)) 96) <| gd (inb (p0 + (6 : Int32)) 96) <| if (si s11 27 (p0 + (6 : Int32)).toNatClampNeg) ≤ (si s11 27 (p0 + (5 : Int32)).toNatClampNeg) then (F_X5_run_83 s11 p0) else (bnd (F_X5_sumOf s11 (p0 + (5 : Int32))) fun r16 s17 => if (si s17 0 62) = 0 then (if r16 = (0 : Int64) then (some ((0 : Int32), s17)) else (F_X5_run_83 s17 p0)) else (some ((0 : Int32), s17)))
set_option maxHeartbeats 4000000 in
theorem c_X5_run {l : Launch} {E : EV} (hE : GE E) (hS : ∀ σ, eSk E σ → SkM σ) {s s' : St} {r : Int32} {p0 : Int32} (h : F_X5_run  s p0 = some (r, s')) : CT l E yX5_run cX5_run 5 (some .int) 9 215 [vr (some 0), vi p0] s (some (vi r)) s' := by
  refine CT.start hE (by decide) rfl [(0, vr (some 0)), (1, vi p0)] rfl (fun X hX B => ?_)
  skip
  have B : FX X E cX5_run 5 (some .int) "RoseThrowModel" "run" (sn s) (ss s) 9 215 := B
  unfold F_X5_run at h
  refine r_aload_n (j := 0) B dX5_run_0 rfl rfl ?_
  refine g5 (k := 37) B (vr (some 20)) rfl (fun z => by rw [(hS _ z).1 0 (by decide)]; rfl) rfl q1554 rfl (fun z => by rw [(hS _ z).2 _ (List.mem_of_getElem? (i := 19) rfl)]; rfl) dX5_run_1 ?_
  refine r_iconst (v := 1) B dX5_run_4 (by decide) ?_
  refine r_aload_n (j := 0) B dX5_run_5 rfl rfl ?_
  refine g5 (k := 3) B (vr (some 2)) rfl (fun z => by rw [(hS _ z).1 0 (by decide)]; rfl) rfl q1520 rfl (fun z => by rw [(hS _ z).2 _ (List.mem_of_getElem? (i := 1) rfl)]; rfl) dX5_run_6 ?_
  refine r_iconst (v := 0) B dX5_run_9 (by decide) ?_
  obtain ⟨hg1, h⟩ := gd_e h
  refine r_iald B rfl (fun z => (hS _ z).1 2 (by decide)) hg1 dX5_run_10 ?_
  refine r_i2l B dX5_run_11 ?_
  obtain ⟨hg2, h⟩ := gd_e h
  obtain ⟨s3, e4, h⟩ := nam_e h
  refine r_last B e4 rfl (fun z => (hS _ z).1 20 (by decide)) hg2 dX5_run_12 ?_
  refine r_aload_n (j := 0) B dX5_run_13 rfl rfl ?_
  refine g5 (k := 37) B (vr (some 20)) rfl (fun z => by rw [(hS _ z).1 0 (by decide)]; rfl) rfl q1554 rfl (fun z => by rw [(hS _ z).2 _ (List.mem_of_getElem? (i := 19) rfl)]; rfl) dX5_run_14 ?_
  refine r_iconst (v := 2) B dX5_run_17 (by decide) ?_
  refine r_aload_n (j := 0) B dX5_run_18 rfl rfl ?_
  refine g5 (k := 59) B (vi (si s3 0 59)) rfl (fun z => by rw [(hS _ z).1 0 (by decide)]; rfl) rfl q1576 rfl (fun _ => rfl) dX5_run_19 ?_
  refine r_i2l B dX5_run_22 ?_
  obtain ⟨hg5, h⟩ := gd_e h
  obtain ⟨s6, e7, h⟩ := nam_e h
  refine r_last B e7 rfl (fun z => (hS _ z).1 20 (by decide)) hg5 dX5_run_23 ?_
  refine r_aload_n (j := 0) B dX5_run_24 rfl rfl ?_
  refine g5 (k := 37) B (vr (some 20)) rfl (fun z => by rw [(hS _ z).1 0 (by decide)]; rfl) rfl q1554 rfl (fun z => by rw [(hS _ z).2 _ (List.mem_of_getElem? (i := 19) rfl)]; rfl) dX5_run_25 ?_
  refine r_iconst (v := 3) B dX5_run_28 (by decide) ?_
  refine r_aload_n (j := 0) B dX5_run_29 rfl rfl ?_
  refine g5 (k := 60) B (vi (si s6 0 60)) rfl (fun z => by rw [(hS _ z).1 0 (by decide)]; rfl) rfl q1577 rfl (fun _ => rfl) dX5_run_30 ?_
  refine r_i2l B dX5_run_33 ?_
  obtain ⟨hg8, h⟩ := gd_e h
  obtain ⟨s9, e10, h⟩ := nam_e h
  refine r_last B e10 rfl (fun z => (hS _ z).1 20 (by decide)) hg8 dX5_run_34 ?_
  refine r_aload_n (j := 0) B dX5_run_35 rfl rfl ?_
  refine r_iconst (v := 0) B dX5_run_36 (by decide) ?_
  obtain ⟨s11, e12, h⟩ := nam_e h
  refine pI5 (k := 62) B e12 rfl (fun z => by rw [(hS _ z).1 0 (by decide)]; rfl) rfl q1579 rfl rfl (fun _ _ _ => rfl) (by decide) dX5_run_37 ?_
  refine r_aload_n (j := 0) B dX5_run_40 rfl rfl ?_
  refine g5 (k := 58) B (vr (some 27)) rfl (fun z => by rw [(hS _ z).1 0 (by decide)]; rfl) rfl q1575 rfl (fun z => by rw [(hS _ z).2 _ (List.mem_of_getElem? (i := 26) rfl)]; rfl) dX5_run_41 ?_
  refine r_iload_n (j := 1) B dX5_run_44 rfl rfl ?_
  refine r_iconst (v := 5) B dX5_run_45 (by decide) ?_
  refine r_iadd B dX5_run_46 ?_
  obtain ⟨hg13, h⟩ := gd_e h
  refine r_iald B rfl (fun z => (hS _ z).1 27 (by decide)) hg13 dX5_run_47 ?_
  refine r_aload_n (j := 0) B dX5_run_48 rfl rfl ?_
  refine g5 (k := 58) B (vr (some 27)) rfl (fun z => by rw [(hS _ z).1 0 (by decide)]; rfl) rfl q1575 rfl (fun z => by rw [(hS _ z).2 _ (List.mem_of_getElem? (i := 26) rfl)]; rfl) dX5_run_49 ?_
  refine r_iload_n (j := 1) B dX5_run_52 rfl rfl ?_
  refine r_bipush (v := 6) B dX5_run_53 (by decide) ?_
  refine r_iadd B dX5_run_55 ?_
  obtain ⟨hg14, h⟩ := gd_e h
  refine r_iald B rfl (fun z => (hS _ z).1 27 (by decide)) hg14 dX5_run_56 ?_
  refine r_ic_ge (tgt := 83) B dX5_run_57 (by decide) (fun cn15 => ?_) (fun cn15 => ?_)
  · have h := ot cn15 h
    exact w_X5_run_83 B hS s11 p0 h
  · have h := of cn15 h
    refine r_aload_n (j := 0) B dX5_run_60 rfl rfl ?_
    refine r_iload_n (j := 1) B dX5_run_61 rfl rfl ?_
    refine r_iconst (v := 5) B dX5_run_62 (by decide) ?_
    refine r_iadd B dX5_run_63 ?_
    obtain ⟨r16, s17, hc18, h⟩ := bnd_e h
    refine r_callVv (As := [vi (p0 + (5 : Int32))]) (rest := []) B rfl rfl EX.same (c_X5_sumOf B.ge hS hc18) (cw_X5_sumOf rfl rfl) (fun z => RV.of 5 ((fun z => by rw [(hS _ z).1 0 (by decide)]; rfl) z) rfl rfl qs119) q2201 q2203 rfl dX5_run_64 ?_
    refine r_lstore_n (L' := [(0, vr (some 0)), (1, vi p0), (2, vl r16)]) B dX5_run_67 rfl (by decide) rfl rfl rfl ?_
    refine r_aload_n (j := 0) B dX5_run_68 rfl rfl ?_
    refine g5 (k := 62) B (vi (si s17 0 62)) rfl (fun z => by rw [(hS _ z).1 0 (by decide)]; rfl) rfl q1579 rfl (fun _ => rfl) dX5_run_69 ?_
    refine r_if_ne (tgt := 81) B dX5_run_72 (by decide) (fun cn19 => ?_) (fun cn19 => ?_)
    · have h := of cn19 h
      refine r_iconst (v := 0) B dX5_run_81 (by decide) ?_
      exact r_iret B dX5_run_82 h
    · have h := ot cn19 h
      refine r_lload_n (j := 2) B dX5_run_75 rfl rfl ?_
      refine r_lconst (v := 0) B dX5_run_76 (by decide) ?_
      refine r_lcmp B dX5_run_77 ?_
      refine r_if_ne (tgt := 83) B dX5_run_78 (by decide) (fun cn20 => ?_) (fun cn20 => ?_)
      · have h := of (fun z => cn20 (lc_eq.mpr z)) h
        refine r_pick [0, 1] (L' := [(0, vr (some 0)), (1, vi p0)]) rfl ?_
        exact w_X5_run_83 B hS s17 p0 h
      · have h := ot (lc_eq.mp cn20) h
        refine r_iconst (v := 0) B dX5_run_81 (by decide) ?_
        exact r_iret B dX5_run_82 h
set_option maxHeartbeats 4000000 in
theorem cw_X5_run {X : CX} {fr lo : Nat} (h1 : Nat.ble (9 + 1) fr = true) (h2 : Nat.ble (24 + 215) lo = true) : CW X fr lo yX5_run cX5_run 5 (some .int) 9 215 1 := ⟨q2200, q136, ⟨by decide +kernel, by decide +kernel, by decide +kernel⟩, Nat.le_of_ble_eq_true h1, Nat.le_of_ble_eq_true h2⟩

set_option maxHeartbeats 4000000 in
noncomputable def F_X5_giveBack_65 : Nat → St → Int32 → Option (Unit × St)
  | 0 => fun _ _ => none
  | n + 1 => fun s x2 => if (6 : Int32) ≤ x2 then (some ((), s)) else (gd (inb x2 6) <| gd (inb (((13 : Int32) + ((5 : Int32) * x2)) + (4 : Int32)) 5460) <| nam (setI s 2 (((13 : Int32) + ((5 : Int32) * x2)) + (4 : Int32)).toNatClampNeg (si s 8 x2.toNatClampNeg)) fun s4 => F_X5_giveBack_65  n s4 (x2 + (1)))
set_option maxHeartbeats 4000000 in
theorem w_X5_giveBack_65 {X : CX} {E : EV} {a0 s' : St} {r : Unit} (B : FX X E cX5_giveBack 3 none "RoseThrowModel" "giveBack" (sn a0) (ss a0) 2 44) (hS : ∀ σ, eSk E σ → SkM σ) : ∀ (n : Nat) (s : St) (x2 : Int32), F_X5_giveBack_65   n s x2 = some (r, s') → J X E (sn a0) (ss a0) 3 (QR X E a0 none s') s 65 [(0, vr (some 0)), (2, vi x2)] [] := by
  intro n
  induction n with
  | zero => intro s x2 h; exact absurd (show (none : Option (Unit × St)) = _ from h) (by simp)
  | succ n ih =>
    intro s x2 h
    rw [F_X5_giveBack_65] at h
    refine r_iload_n (j := 1) B dX5_giveBack_65 rfl rfl ?_
    refine r_bipush (v := 6) B dX5_giveBack_66 (by decide) ?_
    refine r_ic_ge (tgt := 96) B dX5_giveBack_68 (by decide) (fun cn1 => ?_) (fun cn1 => ?_)
    · have h := ot cn1 h
      exact r_vret B dX5_giveBack_96 h
    · have h := of cn1 h
      refine r_aload_n (j := 0) B dX5_giveBack_71 rfl rfl ?_
      refine g5 (k := 3) B (vr (some 2)) rfl (fun z => by rw [(hS _ z).1 0 (by decide)]; rfl) rfl q1520 rfl (fun z => by rw [(hS _ z).2 _ (List.mem_of_getElem? (i := 1) rfl)]; rfl) dX5_giveBack_72 ?_
      refine r_bipush (v := 13) B dX5_giveBack_75 (by decide) ?_
      refine r_iconst (v := 5) B dX5_giveBack_77 (by decide) ?_
      refine r_iload_n (j := 1) B dX5_giveBack_78 rfl rfl ?_
      refine r_imul B dX5_giveBack_79 ?_
      refine r_iadd B dX5_giveBack_80 ?_
      refine r_iconst (v := 4) B dX5_giveBack_81 (by decide) ?_
      refine r_iadd B dX5_giveBack_82 ?_
      refine r_aload_n (j := 0) B dX5_giveBack_83 rfl rfl ?_
      refine g5 (k := 10) B (vr (some 8)) rfl (fun z => by rw [(hS _ z).1 0 (by decide)]; rfl) rfl q1527 rfl (fun z => by rw [(hS _ z).2 _ (List.mem_of_getElem? (i := 7) rfl)]; rfl) dX5_giveBack_84 ?_
      refine r_iload_n (j := 1) B dX5_giveBack_87 rfl rfl ?_
      obtain ⟨hg2, h⟩ := gd_e h
      refine r_iald B rfl (fun z => (hS _ z).1 8 (by decide)) hg2 dX5_giveBack_88 ?_
      obtain ⟨hg3, h⟩ := gd_e h
      obtain ⟨s4, e5, h⟩ := nam_e h
      refine r_iast B e5 rfl (fun z => (hS _ z).1 2 (by decide)) hg3 dX5_giveBack_89 ?_
      refine r_iinc (j := 1) (v := (x2 + (1))) (L' := [(0, vr (some 0)), (2, vi (x2 + (1)))]) B dX5_giveBack_90 rfl rfl (by decide) rfl rfl rfl ?_
      refine r_goto (tgt := 65) B dX5_giveBack_93 (by decide) ?_
      exact ih s4 (x2 + (1)) h
set_option maxHeartbeats 4000000 in
noncomputable def F_X5_giveBack_28 : Nat → St → Int32 → Int32 → Option (Unit × St)
  | 0 => fun _ _ _ => none
  | n + 1 => fun s x1 x2 => if (16 : Int32) ≤ x2 then (nam (setI s 0 8 x1) fun s2 => bnd (F_X5_putBack s2 (102 : Int32)) fun _ s5 => F_X5_giveBack_65 FU s5 (0 : Int32)) else (gd (inb x2 16) <| gd (inb x2 16) <| nam (setI s 6 x2.toNatClampNeg (si s 9 x2.toNatClampNeg)) fun s9 => F_X5_giveBack_28  n s9 x1 (x2 + (1)))
set_option maxHeartbeats 4000000 in
theorem w_X5_giveBack_28 {X : CX} {E : EV} {a0 s' : St} {r : Unit} (B : FX X E cX5_giveBack 3 none "RoseThrowModel" "giveBack" (sn a0) (ss a0) 2 44) (hS : ∀ σ, eSk E σ → SkM σ) : ∀ (n : Nat) (s : St) (x1 : Int32) (x2 : Int32), F_X5_giveBack_28   n s x1 x2 = some (r, s') → J X E (sn a0) (ss a0) 3 (QR X E a0 none s') s 28 [(0, vr (some 0)), (1, vi x1), (2, vi x2)] [] := by
  intro n
  induction n with
  | zero => intro s x1 x2 h; exact absurd (show (none : Option (Unit × St)) = _ from h) (by simp)
  | succ n ih =>
    intro s x1 x2 h
    rw [F_X5_giveBack_28] at h
    refine r_iload_n (j := 2) B dX5_giveBack_28 rfl rfl ?_
    refine r_bipush (v := 16) B dX5_giveBack_29 (by decide) ?_
    refine r_ic_ge (tgt := 52) B dX5_giveBack_31 (by decide) (fun cn1 => ?_) (fun cn1 => ?_)
    · have h := ot cn1 h
      refine r_aload_n (j := 0) B dX5_giveBack_52 rfl rfl ?_
      refine r_iload_n (j := 1) B dX5_giveBack_53 rfl rfl ?_
      obtain ⟨s2, e3, h⟩ := nam_e h
      refine pI5 (k := 8) B e3 rfl (fun z => by rw [(hS _ z).1 0 (by decide)]; rfl) rfl q1525 rfl rfl (fun _ _ _ => rfl) rfl dX5_giveBack_54 ?_
      refine r_aload_n (j := 0) B dX5_giveBack_57 rfl rfl ?_
      refine r_bipush (v := 102) B dX5_giveBack_58 (by decide) ?_
      obtain ⟨r4, s5, hc6, h⟩ := bnd_e h
      refine r_callV0 (As := [vi (102 : Int32)]) (rest := []) B rfl rfl EX.same (c_X5_putBack B.ge hS hc6) (cw_X5_putBack rfl rfl) (fun z => RV.of 5 ((fun z => by rw [(hS _ z).1 0 (by decide)]; rfl) z) rfl rfl qs48) q1728 q1730 rfl dX5_giveBack_60 ?_
      refine r_iconst (v := 0) B dX5_giveBack_63 (by decide) ?_
      refine r_istore_n (L' := [(0, vr (some 0)), (1, vi x1), (2, vi (0 : Int32))]) B dX5_giveBack_64 rfl (by decide) rfl rfl rfl ?_
      refine r_pick [0, 2] (L' := [(0, vr (some 0)), (2, vi (0 : Int32))]) rfl ?_
      exact w_X5_giveBack_65 B hS FU s5 (0 : Int32) h
    · have h := of cn1 h
      refine r_aload_n (j := 0) B dX5_giveBack_34 rfl rfl ?_
      refine g5 (k := 7) B (vr (some 6)) rfl (fun z => by rw [(hS _ z).1 0 (by decide)]; rfl) rfl q1524 rfl (fun z => by rw [(hS _ z).2 _ (List.mem_of_getElem? (i := 5) rfl)]; rfl) dX5_giveBack_35 ?_
      refine r_iload_n (j := 2) B dX5_giveBack_38 rfl rfl ?_
      refine r_aload_n (j := 0) B dX5_giveBack_39 rfl rfl ?_
      refine g5 (k := 11) B (vr (some 9)) rfl (fun z => by rw [(hS _ z).1 0 (by decide)]; rfl) rfl q1528 rfl (fun z => by rw [(hS _ z).2 _ (List.mem_of_getElem? (i := 8) rfl)]; rfl) dX5_giveBack_40 ?_
      refine r_iload_n (j := 2) B dX5_giveBack_43 rfl rfl ?_
      obtain ⟨hg7, h⟩ := gd_e h
      refine r_iald B rfl (fun z => (hS _ z).1 9 (by decide)) hg7 dX5_giveBack_44 ?_
      obtain ⟨hg8, h⟩ := gd_e h
      obtain ⟨s9, e10, h⟩ := nam_e h
      refine r_iast B e10 rfl (fun z => (hS _ z).1 6 (by decide)) hg8 dX5_giveBack_45 ?_
      refine r_iinc (j := 2) (v := (x2 + (1))) (L' := [(0, vr (some 0)), (1, vi x1), (2, vi (x2 + (1)))]) B dX5_giveBack_46 rfl rfl (by decide) rfl rfl rfl ?_
      refine r_goto (tgt := 28) B dX5_giveBack_49 (by decide) ?_
      exact ih s9 x1 (x2 + (1)) h
set_option maxHeartbeats 4000000 in
noncomputable def F_X5_giveBack_2 : Nat → St → Int32 → Int32 → Option (Unit × St)
  | 0 => fun _ _ _ => none
  | n + 1 => fun s x1 x2 => if (108 : Int32) ≤ x2 then (F_X5_giveBack_28 FU s x1 (0 : Int32)) else (gd (inb x2 120) <| gd (inb x2 108) <| nam (setI s 5 x2.toNatClampNeg (si s 7 x2.toNatClampNeg)) fun s4 => F_X5_giveBack_2  n s4 x1 (x2 + (1)))
set_option maxHeartbeats 4000000 in
theorem w_X5_giveBack_2 {X : CX} {E : EV} {a0 s' : St} {r : Unit} (B : FX X E cX5_giveBack 3 none "RoseThrowModel" "giveBack" (sn a0) (ss a0) 2 44) (hS : ∀ σ, eSk E σ → SkM σ) : ∀ (n : Nat) (s : St) (x1 : Int32) (x2 : Int32), F_X5_giveBack_2   n s x1 x2 = some (r, s') → J X E (sn a0) (ss a0) 3 (QR X E a0 none s') s 2 [(0, vr (some 0)), (1, vi x1), (2, vi x2)] [] := by
  intro n
  induction n with
  | zero => intro s x1 x2 h; exact absurd (show (none : Option (Unit × St)) = _ from h) (by simp)
  | succ n ih =>
    intro s x1 x2 h
    rw [F_X5_giveBack_2] at h
    refine r_iload_n (j := 2) B dX5_giveBack_2 rfl rfl ?_
    refine r_bipush (v := 108) B dX5_giveBack_3 (by decide) ?_
    refine r_ic_ge (tgt := 26) B dX5_giveBack_5 (by decide) (fun cn1 => ?_) (fun cn1 => ?_)
    · have h := ot cn1 h
      refine r_iconst (v := 0) B dX5_giveBack_26 (by decide) ?_
      refine r_istore_n (L' := [(0, vr (some 0)), (1, vi x1), (2, vi (0 : Int32))]) B dX5_giveBack_27 rfl (by decide) rfl rfl rfl ?_
      exact w_X5_giveBack_28 B hS FU s x1 (0 : Int32) h
    · have h := of cn1 h
      refine r_aload_n (j := 0) B dX5_giveBack_8 rfl rfl ?_
      refine g5 (k := 6) B (vr (some 5)) rfl (fun z => by rw [(hS _ z).1 0 (by decide)]; rfl) rfl q1523 rfl (fun z => by rw [(hS _ z).2 _ (List.mem_of_getElem? (i := 4) rfl)]; rfl) dX5_giveBack_9 ?_
      refine r_iload_n (j := 2) B dX5_giveBack_12 rfl rfl ?_
      refine r_aload_n (j := 0) B dX5_giveBack_13 rfl rfl ?_
      refine g5 (k := 9) B (vr (some 7)) rfl (fun z => by rw [(hS _ z).1 0 (by decide)]; rfl) rfl q1526 rfl (fun z => by rw [(hS _ z).2 _ (List.mem_of_getElem? (i := 6) rfl)]; rfl) dX5_giveBack_14 ?_
      refine r_iload_n (j := 2) B dX5_giveBack_17 rfl rfl ?_
      obtain ⟨hg2, h⟩ := gd_e h
      refine r_iald B rfl (fun z => (hS _ z).1 7 (by decide)) hg2 dX5_giveBack_18 ?_
      obtain ⟨hg3, h⟩ := gd_e h
      obtain ⟨s4, e5, h⟩ := nam_e h
      refine r_iast B e5 rfl (fun z => (hS _ z).1 5 (by decide)) hg3 dX5_giveBack_19 ?_
      refine r_iinc (j := 2) (v := (x2 + (1))) (L' := [(0, vr (some 0)), (1, vi x1), (2, vi (x2 + (1)))]) B dX5_giveBack_20 rfl rfl (by decide) rfl rfl rfl ?_
      refine r_goto (tgt := 2) B dX5_giveBack_23 (by decide) ?_
      exact ih s4 x1 (x2 + (1)) h
set_option maxHeartbeats 4000000 in
noncomputable def F_X5_giveBack (s : St) (p0 : Int32) : Option (Unit × St) := F_X5_giveBack_2 FU s p0 (0 : Int32)
set_option maxHeartbeats 4000000 in
theorem c_X5_giveBack {l : Launch} {E : EV} (hE : GE E) (hS : ∀ σ, eSk E σ → SkM σ) {s s' : St} {r : Unit} {p0 : Int32} (h : F_X5_giveBack  s p0 = some (r, s')) : CT l E yX5_giveBack cX5_giveBack 3 none 2 44 [vr (some 0), vi p0] s none s' := by
  refine CT.start hE (by decide) rfl [(0, vr (some 0)), (1, vi p0)] rfl (fun X hX B => ?_)
  skip
  have B : FX X E cX5_giveBack 3 none "RoseThrowModel" "giveBack" (sn s) (ss s) 2 44 := B
  unfold F_X5_giveBack at h
  refine r_iconst (v := 0) B dX5_giveBack_0 (by decide) ?_
  refine r_istore_n (L' := [(0, vr (some 0)), (1, vi p0), (2, vi (0 : Int32))]) B dX5_giveBack_1 rfl (by decide) rfl rfl rfl ?_
  exact w_X5_giveBack_2 B hS FU s p0 (0 : Int32) h
set_option maxHeartbeats 4000000 in
theorem cw_X5_giveBack {X : CX} {fr lo : Nat} (h1 : Nat.ble (2 + 1) fr = true) (h2 : Nat.ble (22 + 44) lo = true) : CW X fr lo yX5_giveBack cX5_giveBack 3 none 2 44 1 := ⟨q2208, q136, ⟨by decide +kernel, by decide +kernel, by decide +kernel⟩, Nat.le_of_ble_eq_true h1, Nat.le_of_ble_eq_true h2⟩

set_option maxHeartbeats 4000000 in
noncomputable def F_X5_orders_175 (k165 : St → Int32 → Int32 → Option (Int32 × St)) : Nat → St → Int32 → Int32 → Int32 → Option (Int32 × St)
  | 0 => fun _ _ _ _ => none
  | n + 1 => fun s x1 x2 x3 => gd (inb (((8 : Int32) * x2) + (7 : Int32)) 96) <| if (si s 27 (((8 : Int32) * x2) + (7 : Int32)).toNatClampNeg) ≤ x3 then (k165 s x1 (x2 + (1))) else (bnd (F_X5_run s ((8 : Int32) * x2)) fun r3 s4 => if 0 ≤ r3 then (F_X5_orders_175 k165 n s4 x1 x2 (x3 + (1))) else (bnd (F_X5_giveBack s4 x1) fun _ s8 => nam (setI s8 0 61 x2) fun s10 => bnd (F_X5_tell s10 (-3 : Int32)) fun r12 s13 => some (r12, s13)))
set_option maxHeartbeats 4000000 in
theorem w_X5_orders_175 {X : CX} {E : EV} {a0 s' : St} {r : Int32} (B : FX X E cX5_orders 4 (some .int) "RoseThrowModel" "orders" (sn a0) (ss a0) 10 239) (hS : ∀ σ, eSk E σ → SkM σ) (k165 : St → Int32 → Int32 → Option (Int32 × St)) (hk165 : ∀ (s : St) (x1 : Int32) (x2 : Int32), k165 s x1 x2 = some (r, s') → J X E (sn a0) (ss a0) 4 (QR X E a0 (some (vi r)) s') s 165 [(0, vr (some 0)), (1, vi x1), (2, vi x2)] []) : ∀ (n : Nat) (s : St) (x1 : Int32) (x2 : Int32) (x3 : Int32), F_X5_orders_175  k165 n s x1 x2 x3 = some (r, s') → J X E (sn a0) (ss a0) 4 (QR X E a0 (some (vi r)) s') s 175 [(0, vr (some 0)), (1, vi x1), (2, vi x2), (3, vi x3)] [] := by
  intro n
  induction n with
  | zero => intro s x1 x2 x3 h; exact absurd (show (none : Option (Int32 × St)) = _ from h) (by simp)
  | succ n ih =>
    intro s x1 x2 x3 h
    rw [F_X5_orders_175] at h
    refine r_iload_n (j := 3) B dX5_orders_175 rfl rfl ?_
    refine r_aload_n (j := 0) B dX5_orders_176 rfl rfl ?_
    refine g5 (k := 58) B (vr (some 27)) rfl (fun z => by rw [(hS _ z).1 0 (by decide)]; rfl) rfl q1575 rfl (fun z => by rw [(hS _ z).2 _ (List.mem_of_getElem? (i := 26) rfl)]; rfl) dX5_orders_177 ?_
    refine r_bipush (v := 8) B dX5_orders_180 (by decide) ?_
    refine r_iload_n (j := 2) B dX5_orders_182 rfl rfl ?_
    refine r_imul B dX5_orders_183 ?_
    refine r_bipush (v := 7) B dX5_orders_184 (by decide) ?_
    refine r_iadd B dX5_orders_186 ?_
    obtain ⟨hg1, h⟩ := gd_e h
    refine r_iald B rfl (fun z => (hS _ z).1 27 (by decide)) hg1 dX5_orders_187 ?_
    refine r_ic_ge (tgt := 225) B dX5_orders_188 (by decide) (fun cn2 => ?_) (fun cn2 => ?_)
    · have h := ot cn2 h
      refine r_iinc (j := 2) (v := (x2 + (1))) (L' := [(0, vr (some 0)), (1, vi x1), (2, vi (x2 + (1))), (3, vi x3)]) B dX5_orders_225 rfl rfl (by decide) rfl rfl rfl ?_
      refine r_goto (tgt := 165) B dX5_orders_228 (by decide) ?_
      refine r_pick [0, 1, 2] (L' := [(0, vr (some 0)), (1, vi x1), (2, vi (x2 + (1)))]) rfl ?_
      exact hk165 s x1 (x2 + (1)) h
    · have h := of cn2 h
      refine r_aload_n (j := 0) B dX5_orders_191 rfl rfl ?_
      refine r_bipush (v := 8) B dX5_orders_192 (by decide) ?_
      refine r_iload_n (j := 2) B dX5_orders_194 rfl rfl ?_
      refine r_imul B dX5_orders_195 ?_
      obtain ⟨r3, s4, hc5, h⟩ := bnd_e h
      refine r_callVv (As := [vi ((8 : Int32) * x2)]) (rest := []) B rfl rfl EX.same (c_X5_run B.ge hS hc5) (cw_X5_run rfl rfl) (fun z => RV.of 5 ((fun z => by rw [(hS _ z).1 0 (by decide)]; rfl) z) rfl rfl qs118) q2197 q2199 rfl dX5_orders_196 ?_
      refine r_if_ge (tgt := 219) B dX5_orders_199 (by decide) (fun cn6 => ?_) (fun cn6 => ?_)
      · have h := ot cn6 h
        refine r_iinc (j := 3) (v := (x3 + (1))) (L' := [(0, vr (some 0)), (1, vi x1), (2, vi x2), (3, vi (x3 + (1)))]) B dX5_orders_219 rfl rfl (by decide) rfl rfl rfl ?_
        refine r_goto (tgt := 175) B dX5_orders_222 (by decide) ?_
        exact ih s4 x1 x2 (x3 + (1)) h
      · have h := of cn6 h
        refine r_aload_n (j := 0) B dX5_orders_202 rfl rfl ?_
        refine r_iload_n (j := 1) B dX5_orders_203 rfl rfl ?_
        obtain ⟨r7, s8, hc9, h⟩ := bnd_e h
        refine r_callV0 (As := [vi x1]) (rest := []) B rfl rfl EX.same (c_X5_giveBack B.ge hS hc9) (cw_X5_giveBack rfl rfl) (fun z => RV.of 5 ((fun z => by rw [(hS _ z).1 0 (by decide)]; rfl) z) rfl rfl qs120) q2205 q2207 rfl dX5_orders_204 ?_
        refine r_aload_n (j := 0) B dX5_orders_207 rfl rfl ?_
        refine r_iload_n (j := 2) B dX5_orders_208 rfl rfl ?_
        obtain ⟨s10, e11, h⟩ := nam_e h
        refine pI5 (k := 61) B e11 rfl (fun z => by rw [(hS _ z).1 0 (by decide)]; rfl) rfl q1578 rfl rfl (fun _ _ _ => rfl) rfl dX5_orders_209 ?_
        refine r_aload_n (j := 0) B dX5_orders_212 rfl rfl ?_
        refine r_bipush (v := -3) B dX5_orders_213 (by decide) ?_
        obtain ⟨r12, s13, hc14, h⟩ := bnd_e h
        refine r_callVv (As := [vi (-3 : Int32)]) (rest := []) B rfl rfl EX.same (c_X5_tell B.ge hS hc14) (cw_X5_tell rfl rfl) (fun z => RV.of 5 ((fun z => by rw [(hS _ z).1 0 (by decide)]; rfl) z) rfl rfl qs47) q1724 q1726 rfl dX5_orders_215 ?_
        exact r_iret B dX5_orders_218 h
set_option maxHeartbeats 4000000 in
noncomputable def F_X5_orders_165 : Nat → St → Int32 → Int32 → Option (Int32 × St)
  | 0 => fun _ _ _ => none
  | n + 1 => fun s x1 x2 => if (si s 0 22) ≤ x2 then (bnd (F_X5_tell s (si s 0 59)) fun r2 s3 => some (r2, s3)) else (F_X5_orders_175 (F_X5_orders_165  n) FU s x1 x2 (0 : Int32))
set_option maxHeartbeats 4000000 in
theorem w_X5_orders_165 {X : CX} {E : EV} {a0 s' : St} {r : Int32} (B : FX X E cX5_orders 4 (some .int) "RoseThrowModel" "orders" (sn a0) (ss a0) 10 239) (hS : ∀ σ, eSk E σ → SkM σ) : ∀ (n : Nat) (s : St) (x1 : Int32) (x2 : Int32), F_X5_orders_165   n s x1 x2 = some (r, s') → J X E (sn a0) (ss a0) 4 (QR X E a0 (some (vi r)) s') s 165 [(0, vr (some 0)), (1, vi x1), (2, vi x2)] [] := by
  intro n
  induction n with
  | zero => intro s x1 x2 h; exact absurd (show (none : Option (Int32 × St)) = _ from h) (by simp)
  | succ n ih =>
    intro s x1 x2 h
    rw [F_X5_orders_165] at h
    refine r_iload_n (j := 2) B dX5_orders_165 rfl rfl ?_
    refine r_aload_n (j := 0) B dX5_orders_166 rfl rfl ?_
    refine g5 (k := 22) B (vi (si s 0 22)) rfl (fun z => by rw [(hS _ z).1 0 (by decide)]; rfl) rfl q1539 rfl (fun _ => rfl) dX5_orders_167 ?_
    refine r_ic_ge (tgt := 231) B dX5_orders_170 (by decide) (fun cn1 => ?_) (fun cn1 => ?_)
    · have h := ot cn1 h
      refine r_aload_n (j := 0) B dX5_orders_231 rfl rfl ?_
      refine r_aload_n (j := 0) B dX5_orders_232 rfl rfl ?_
      refine g5 (k := 59) B (vi (si s 0 59)) rfl (fun z => by rw [(hS _ z).1 0 (by decide)]; rfl) rfl q1576 rfl (fun _ => rfl) dX5_orders_233 ?_
      obtain ⟨r2, s3, hc4, h⟩ := bnd_e h
      refine r_callVv (As := [vi (si s 0 59)]) (rest := []) B rfl rfl EX.same (c_X5_tell B.ge hS hc4) (cw_X5_tell rfl rfl) (fun z => RV.of 5 ((fun z => by rw [(hS _ z).1 0 (by decide)]; rfl) z) rfl rfl qs47) q1724 q1726 rfl dX5_orders_236 ?_
      exact r_iret B dX5_orders_239 h
    · have h := of cn1 h
      refine r_iconst (v := 0) B dX5_orders_173 (by decide) ?_
      refine r_istore_n (L' := [(0, vr (some 0)), (1, vi x1), (2, vi x2), (3, vi (0 : Int32))]) B dX5_orders_174 rfl (by decide) rfl rfl rfl ?_
      exact w_X5_orders_175 B hS (F_X5_orders_165  n) ih FU s x1 x2 (0 : Int32) h
set_option maxHeartbeats 4000000 in
noncomputable def F_X5_orders_129 : Nat → St → Int32 → Int32 → Option (Int32 × St)
  | 0 => fun _ _ _ => none
  | n + 1 => fun s x1 x2 => if (6 : Int32) ≤ x2 then (nam (setI s 0 59 (0 : Int32)) fun s2 => nam (setI s2 0 60 (-1 : Int32)) fun s4 => F_X5_orders_165 FU s4 x1 (0 : Int32)) else (bnd (F_X5_ofCatcher s x2 (4 : Int32)) fun r6 s7 => gd (inb x2 6) <| nam (setI s7 8 x2.toNatClampNeg r6) fun s10 => F_X5_orders_129  n s10 x1 (x2 + (1)))
set_option maxHeartbeats 4000000 in
theorem w_X5_orders_129 {X : CX} {E : EV} {a0 s' : St} {r : Int32} (B : FX X E cX5_orders 4 (some .int) "RoseThrowModel" "orders" (sn a0) (ss a0) 10 239) (hS : ∀ σ, eSk E σ → SkM σ) : ∀ (n : Nat) (s : St) (x1 : Int32) (x2 : Int32), F_X5_orders_129   n s x1 x2 = some (r, s') → J X E (sn a0) (ss a0) 4 (QR X E a0 (some (vi r)) s') s 129 [(0, vr (some 0)), (1, vi x1), (2, vi x2)] [] := by
  intro n
  induction n with
  | zero => intro s x1 x2 h; exact absurd (show (none : Option (Int32 × St)) = _ from h) (by simp)
  | succ n ih =>
    intro s x1 x2 h
    rw [F_X5_orders_129] at h
    refine r_iload_n (j := 2) B dX5_orders_129 rfl rfl ?_
    refine r_bipush (v := 6) B dX5_orders_130 (by decide) ?_
    refine r_ic_ge (tgt := 153) B dX5_orders_132 (by decide) (fun cn1 => ?_) (fun cn1 => ?_)
    · have h := ot cn1 h
      refine r_aload_n (j := 0) B dX5_orders_153 rfl rfl ?_
      refine r_iconst (v := 0) B dX5_orders_154 (by decide) ?_
      obtain ⟨s2, e3, h⟩ := nam_e h
      refine pI5 (k := 59) B e3 rfl (fun z => by rw [(hS _ z).1 0 (by decide)]; rfl) rfl q1576 rfl rfl (fun _ _ _ => rfl) rfl dX5_orders_155 ?_
      refine r_aload_n (j := 0) B dX5_orders_158 rfl rfl ?_
      refine r_iconst (v := -1) B dX5_orders_159 (by decide) ?_
      obtain ⟨s4, e5, h⟩ := nam_e h
      refine pI5 (k := 60) B e5 rfl (fun z => by rw [(hS _ z).1 0 (by decide)]; rfl) rfl q1577 rfl rfl (fun _ _ _ => rfl) rfl dX5_orders_160 ?_
      refine r_iconst (v := 0) B dX5_orders_163 (by decide) ?_
      refine r_istore_n (L' := [(0, vr (some 0)), (1, vi x1), (2, vi (0 : Int32))]) B dX5_orders_164 rfl (by decide) rfl rfl rfl ?_
      exact w_X5_orders_165 B hS FU s4 x1 (0 : Int32) h
    · have h := of cn1 h
      refine r_aload_n (j := 0) B dX5_orders_135 rfl rfl ?_
      refine g5 (k := 10) B (vr (some 8)) rfl (fun z => by rw [(hS _ z).1 0 (by decide)]; rfl) rfl q1527 rfl (fun z => by rw [(hS _ z).2 _ (List.mem_of_getElem? (i := 7) rfl)]; rfl) dX5_orders_136 ?_
      refine r_iload_n (j := 2) B dX5_orders_139 rfl rfl ?_
      refine r_aload_n (j := 0) B dX5_orders_140 rfl rfl ?_
      refine r_iload_n (j := 2) B dX5_orders_141 rfl rfl ?_
      refine r_iconst (v := 4) B dX5_orders_142 (by decide) ?_
      obtain ⟨r6, s7, hc8, h⟩ := bnd_e h
      refine r_callVv (As := [vi x2, vi (4 : Int32)]) (rest := [vi x2, vr (some 8)]) B rfl rfl EX.same (c_X5_ofCatcher B.ge hS hc8) (cw_X5_ofCatcher rfl rfl) (fun z => RV.of 5 ((fun z => by rw [(hS _ z).1 0 (by decide)]; rfl) z) rfl rfl qs52) q1766 q1768 rfl dX5_orders_143 ?_
      obtain ⟨hg9, h⟩ := gd_e h
      obtain ⟨s10, e11, h⟩ := nam_e h
      refine r_iast B e11 rfl (fun z => (hS _ z).1 8 (by decide)) hg9 dX5_orders_146 ?_
      refine r_iinc (j := 2) (v := (x2 + (1))) (L' := [(0, vr (some 0)), (1, vi x1), (2, vi (x2 + (1)))]) B dX5_orders_147 rfl rfl (by decide) rfl rfl rfl ?_
      refine r_goto (tgt := 129) B dX5_orders_150 (by decide) ?_
      exact ih s10 x1 (x2 + (1)) h
set_option maxHeartbeats 4000000 in
noncomputable def F_X5_orders_103 : Nat → St → Int32 → Int32 → Option (Int32 × St)
  | 0 => fun _ _ _ => none
  | n + 1 => fun s x1 x2 => if (16 : Int32) ≤ x2 then (F_X5_orders_129 FU s x1 (0 : Int32)) else (gd (inb x2 16) <| gd (inb x2 16) <| nam (setI s 9 x2.toNatClampNeg (si s 6 x2.toNatClampNeg)) fun s4 => F_X5_orders_103  n s4 x1 (x2 + (1)))
set_option maxHeartbeats 4000000 in
theorem w_X5_orders_103 {X : CX} {E : EV} {a0 s' : St} {r : Int32} (B : FX X E cX5_orders 4 (some .int) "RoseThrowModel" "orders" (sn a0) (ss a0) 10 239) (hS : ∀ σ, eSk E σ → SkM σ) : ∀ (n : Nat) (s : St) (x1 : Int32) (x2 : Int32), F_X5_orders_103   n s x1 x2 = some (r, s') → J X E (sn a0) (ss a0) 4 (QR X E a0 (some (vi r)) s') s 103 [(0, vr (some 0)), (1, vi x1), (2, vi x2)] [] := by
  intro n
  induction n with
  | zero => intro s x1 x2 h; exact absurd (show (none : Option (Int32 × St)) = _ from h) (by simp)
  | succ n ih =>
    intro s x1 x2 h
    rw [F_X5_orders_103] at h
    refine r_iload_n (j := 2) B dX5_orders_103 rfl rfl ?_
    refine r_bipush (v := 16) B dX5_orders_104 (by decide) ?_
    refine r_ic_ge (tgt := 127) B dX5_orders_106 (by decide) (fun cn1 => ?_) (fun cn1 => ?_)
    · have h := ot cn1 h
      refine r_iconst (v := 0) B dX5_orders_127 (by decide) ?_
      refine r_istore_n (L' := [(0, vr (some 0)), (1, vi x1), (2, vi (0 : Int32))]) B dX5_orders_128 rfl (by decide) rfl rfl rfl ?_
      exact w_X5_orders_129 B hS FU s x1 (0 : Int32) h
    · have h := of cn1 h
      refine r_aload_n (j := 0) B dX5_orders_109 rfl rfl ?_
      refine g5 (k := 11) B (vr (some 9)) rfl (fun z => by rw [(hS _ z).1 0 (by decide)]; rfl) rfl q1528 rfl (fun z => by rw [(hS _ z).2 _ (List.mem_of_getElem? (i := 8) rfl)]; rfl) dX5_orders_110 ?_
      refine r_iload_n (j := 2) B dX5_orders_113 rfl rfl ?_
      refine r_aload_n (j := 0) B dX5_orders_114 rfl rfl ?_
      refine g5 (k := 7) B (vr (some 6)) rfl (fun z => by rw [(hS _ z).1 0 (by decide)]; rfl) rfl q1524 rfl (fun z => by rw [(hS _ z).2 _ (List.mem_of_getElem? (i := 5) rfl)]; rfl) dX5_orders_115 ?_
      refine r_iload_n (j := 2) B dX5_orders_118 rfl rfl ?_
      obtain ⟨hg2, h⟩ := gd_e h
      refine r_iald B rfl (fun z => (hS _ z).1 6 (by decide)) hg2 dX5_orders_119 ?_
      obtain ⟨hg3, h⟩ := gd_e h
      obtain ⟨s4, e5, h⟩ := nam_e h
      refine r_iast B e5 rfl (fun z => (hS _ z).1 9 (by decide)) hg3 dX5_orders_120 ?_
      refine r_iinc (j := 2) (v := (x2 + (1))) (L' := [(0, vr (some 0)), (1, vi x1), (2, vi (x2 + (1)))]) B dX5_orders_121 rfl rfl (by decide) rfl rfl rfl ?_
      refine r_goto (tgt := 103) B dX5_orders_124 (by decide) ?_
      exact ih s4 x1 (x2 + (1)) h
set_option maxHeartbeats 4000000 in
noncomputable def F_X5_orders_77 : Nat → St → Int32 → Int32 → Option (Int32 × St)
  | 0 => fun _ _ _ => none
  | n + 1 => fun s x1 x2 => if (108 : Int32) ≤ x2 then (F_X5_orders_103 FU s x1 (0 : Int32)) else (gd (inb x2 108) <| gd (inb x2 120) <| nam (setI s 7 x2.toNatClampNeg (si s 5 x2.toNatClampNeg)) fun s4 => F_X5_orders_77  n s4 x1 (x2 + (1)))
set_option maxHeartbeats 4000000 in
theorem w_X5_orders_77 {X : CX} {E : EV} {a0 s' : St} {r : Int32} (B : FX X E cX5_orders 4 (some .int) "RoseThrowModel" "orders" (sn a0) (ss a0) 10 239) (hS : ∀ σ, eSk E σ → SkM σ) : ∀ (n : Nat) (s : St) (x1 : Int32) (x2 : Int32), F_X5_orders_77   n s x1 x2 = some (r, s') → J X E (sn a0) (ss a0) 4 (QR X E a0 (some (vi r)) s') s 77 [(0, vr (some 0)), (1, vi x1), (2, vi x2)] [] := by
  intro n
  induction n with
  | zero => intro s x1 x2 h; exact absurd (show (none : Option (Int32 × St)) = _ from h) (by simp)
  | succ n ih =>
    intro s x1 x2 h
    rw [F_X5_orders_77] at h
    refine r_iload_n (j := 2) B dX5_orders_77 rfl rfl ?_
    refine r_bipush (v := 108) B dX5_orders_78 (by decide) ?_
    refine r_ic_ge (tgt := 101) B dX5_orders_80 (by decide) (fun cn1 => ?_) (fun cn1 => ?_)
    · have h := ot cn1 h
      refine r_iconst (v := 0) B dX5_orders_101 (by decide) ?_
      refine r_istore_n (L' := [(0, vr (some 0)), (1, vi x1), (2, vi (0 : Int32))]) B dX5_orders_102 rfl (by decide) rfl rfl rfl ?_
      exact w_X5_orders_103 B hS FU s x1 (0 : Int32) h
    · have h := of cn1 h
      refine r_aload_n (j := 0) B dX5_orders_83 rfl rfl ?_
      refine g5 (k := 9) B (vr (some 7)) rfl (fun z => by rw [(hS _ z).1 0 (by decide)]; rfl) rfl q1526 rfl (fun z => by rw [(hS _ z).2 _ (List.mem_of_getElem? (i := 6) rfl)]; rfl) dX5_orders_84 ?_
      refine r_iload_n (j := 2) B dX5_orders_87 rfl rfl ?_
      refine r_aload_n (j := 0) B dX5_orders_88 rfl rfl ?_
      refine g5 (k := 6) B (vr (some 5)) rfl (fun z => by rw [(hS _ z).1 0 (by decide)]; rfl) rfl q1523 rfl (fun z => by rw [(hS _ z).2 _ (List.mem_of_getElem? (i := 4) rfl)]; rfl) dX5_orders_89 ?_
      refine r_iload_n (j := 2) B dX5_orders_92 rfl rfl ?_
      obtain ⟨hg2, h⟩ := gd_e h
      refine r_iald B rfl (fun z => (hS _ z).1 5 (by decide)) hg2 dX5_orders_93 ?_
      obtain ⟨hg3, h⟩ := gd_e h
      obtain ⟨s4, e5, h⟩ := nam_e h
      refine r_iast B e5 rfl (fun z => (hS _ z).1 7 (by decide)) hg3 dX5_orders_94 ?_
      refine r_iinc (j := 2) (v := (x2 + (1))) (L' := [(0, vr (some 0)), (1, vi x1), (2, vi (x2 + (1)))]) B dX5_orders_95 rfl rfl (by decide) rfl rfl rfl ?_
      refine r_goto (tgt := 77) B dX5_orders_98 (by decide) ?_
      exact ih s4 x1 (x2 + (1)) h
set_option maxHeartbeats 4000000 in
noncomputable def F_X5_orders_46 (s : St)  : Option (Int32 × St) := bnd (F_X5_endText s) fun _ s2 => if (si s2 0 20) = 0 then (bnd (F_X5_keepCells s2 (102 : Int32)) fun _ s6 => F_X5_orders_77 FU s6 (si s2 0 8) (0 : Int32)) else (bnd (F_X5_tell s2 (-6 : Int32)) fun r8 s9 => some (r8, s9))
set_option maxHeartbeats 4000000 in
theorem w_X5_orders_46 {X : CX} {E : EV} {a0 s' : St} {r : Int32} (B : FX X E cX5_orders 4 (some .int) "RoseThrowModel" "orders" (sn a0) (ss a0) 10 239) (hS : ∀ σ, eSk E σ → SkM σ) (s : St)  (h : F_X5_orders_46   s  = some (r, s')) : J X E (sn a0) (ss a0) 4 (QR X E a0 (some (vi r)) s') s 46 [(0, vr (some 0))] [] := by
  unfold F_X5_orders_46 at h
  refine r_aload_n (j := 0) B dX5_orders_46 rfl rfl ?_
  obtain ⟨r1, s2, hc3, h⟩ := bnd_e h
  refine r_callV0 (As := []) (rest := []) B rfl rfl EX.same (c_X5_endText B.ge hS hc3) (cw_X5_endText rfl rfl) (fun z => RV.of 5 ((fun z => by rw [(hS _ z).1 0 (by decide)]; rfl) z) rfl rfl qs87) q1973 q1975 rfl dX5_orders_47 ?_
  refine r_aload_n (j := 0) B dX5_orders_50 rfl rfl ?_
  refine g5 (k := 20) B (vi (si s2 0 20)) rfl (fun z => by rw [(hS _ z).1 0 (by decide)]; rfl) rfl q1537 rfl (fun _ => rfl) dX5_orders_51 ?_
  refine r_if_eq (tgt := 64) B dX5_orders_54 (by decide) (fun cn4 => ?_) (fun cn4 => ?_)
  · have h := ot cn4 h
    refine r_aload_n (j := 0) B dX5_orders_64 rfl rfl ?_
    refine g5 (k := 8) B (vi (si s2 0 8)) rfl (fun z => by rw [(hS _ z).1 0 (by decide)]; rfl) rfl q1525 rfl (fun _ => rfl) dX5_orders_65 ?_
    refine r_istore_n (L' := [(0, vr (some 0)), (1, vi (si s2 0 8))]) B dX5_orders_68 rfl (by decide) rfl rfl rfl ?_
    refine r_aload_n (j := 0) B dX5_orders_69 rfl rfl ?_
    refine r_bipush (v := 102) B dX5_orders_70 (by decide) ?_
    obtain ⟨r5, s6, hc7, h⟩ := bnd_e h
    refine r_callV0 (As := [vi (102 : Int32)]) (rest := []) B rfl rfl EX.same (c_X5_keepCells B.ge hS hc7) (cw_X5_keepCells rfl rfl) (fun z => RV.of 5 ((fun z => by rw [(hS _ z).1 0 (by decide)]; rfl) z) rfl rfl qs103) q2070 q2072 rfl dX5_orders_72 ?_
    refine r_iconst (v := 0) B dX5_orders_75 (by decide) ?_
    refine r_istore_n (L' := [(0, vr (some 0)), (1, vi (si s2 0 8)), (2, vi (0 : Int32))]) B dX5_orders_76 rfl (by decide) rfl rfl rfl ?_
    exact w_X5_orders_77 B hS FU s6 (si s2 0 8) (0 : Int32) h
  · have h := of cn4 h
    refine r_aload_n (j := 0) B dX5_orders_57 rfl rfl ?_
    refine r_bipush (v := -6) B dX5_orders_58 (by decide) ?_
    obtain ⟨r8, s9, hc10, h⟩ := bnd_e h
    refine r_callVv (As := [vi (-6 : Int32)]) (rest := []) B rfl rfl EX.same (c_X5_tell B.ge hS hc10) (cw_X5_tell rfl rfl) (fun z => RV.of 5 ((fun z => by rw [(hS _ z).1 0 (by decide)]; rfl) z) rfl rfl qs47) q1724 q1726 rfl dX5_orders_60 ?_
    exact r_iret B dX5_orders_63 h
set_option maxHeartbeats 4000000 in
noncomputable def F_X5_orders_19 : Nat → St → Option (Int32 × St)
  | 0 => fun _ => none
  | n + 1 => fun s  => if (si s 0 20) = 0 then (bnd (F_X5_isSign s (59 : Int32)) fun r2 s3 => if r2 = 0 then (F_X5_orders_46 s3) else (bnd (F_X5_next s3) fun _ s7 => bnd (F_X5_readOrder s7) fun _ s10 => F_X5_orders_19  n s10)) else (F_X5_orders_46 s)
set_option maxHeartbeats 4000000 in
theorem w_X5_orders_19 {X : CX} {E : EV} {a0 s' : St} {r : Int32} (B : FX X E cX5_orders 4 (some .int) "RoseThrowModel" "orders" (sn a0) (ss a0) 10 239) (hS : ∀ σ, eSk E σ → SkM σ) : ∀ (n : Nat) (s : St) , F_X5_orders_19   n s  = some (r, s') → J X E (sn a0) (ss a0) 4 (QR X E a0 (some (vi r)) s') s 19 [(0, vr (some 0))] [] := by
  intro n
  induction n with
  | zero => intro s  h; exact absurd (show (none : Option (Int32 × St)) = _ from h) (by simp)
  | succ n ih =>
    intro s  h
    rw [F_X5_orders_19] at h
    refine r_aload_n (j := 0) B dX5_orders_19 rfl rfl ?_
    refine g5 (k := 20) B (vi (si s 0 20)) rfl (fun z => by rw [(hS _ z).1 0 (by decide)]; rfl) rfl q1537 rfl (fun _ => rfl) dX5_orders_20 ?_
    refine r_if_ne (tgt := 46) B dX5_orders_23 (by decide) (fun cn1 => ?_) (fun cn1 => ?_)
    · have h := of cn1 h
      exact w_X5_orders_46 B hS s h
    · have h := ot cn1 h
      refine r_aload_n (j := 0) B dX5_orders_26 rfl rfl ?_
      refine r_bipush (v := 59) B dX5_orders_27 (by decide) ?_
      obtain ⟨r2, s3, hc4, h⟩ := bnd_e h
      refine r_callVv (As := [vi (59 : Int32)]) (rest := []) B rfl rfl EX.same (c_X5_isSign B.ge hS hc4) (cw_X5_isSign rfl rfl) (fun z => RV.of 5 ((fun z => by rw [(hS _ z).1 0 (by decide)]; rfl) z) rfl rfl qs74) q1912 q1914 rfl dX5_orders_29 ?_
      refine r_if_eq (tgt := 46) B dX5_orders_32 (by decide) (fun cn5 => ?_) (fun cn5 => ?_)
      · have h := ot cn5 h
        exact w_X5_orders_46 B hS s3 h
      · have h := of cn5 h
        refine r_aload_n (j := 0) B dX5_orders_35 rfl rfl ?_
        obtain ⟨r6, s7, hc8, h⟩ := bnd_e h
        refine r_callV0 (As := []) (rest := []) B rfl rfl EX.same (c_X5_next B.ge hS hc8) (cw_X5_next rfl rfl) (fun z => RV.of 5 ((fun z => by rw [(hS _ z).1 0 (by decide)]; rfl) z) rfl rfl qs67) q1872 q1874 rfl dX5_orders_36 ?_
        refine r_aload_n (j := 0) B dX5_orders_39 rfl rfl ?_
        obtain ⟨r9, s10, hc11, h⟩ := bnd_e h
        refine r_callV0 (As := []) (rest := []) B rfl rfl EX.same (c_X5_readOrder B.ge hS hc11) (cw_X5_readOrder rfl rfl) (fun z => RV.of 5 ((fun z => by rw [(hS _ z).1 0 (by decide)]; rfl) z) rfl rfl qs116) q2184 q2186 rfl dX5_orders_40 ?_
        refine r_goto (tgt := 19) B dX5_orders_43 (by decide) ?_
        exact ih s10 h
set_option maxHeartbeats 4000000 in
noncomputable def F_X5_orders (s : St)  : Option (Int32 × St) := nam (setI s 0 0 (0 : Int32)) fun s1 => nam (setI s1 0 61 (-1 : Int32)) fun s3 => bnd (F_X5_beginText s3 (1 : Int32)) fun _ s6 => bnd (F_X5_readOrder s6) fun _ s9 => F_X5_orders_19 FU s9
set_option maxHeartbeats 4000000 in
theorem c_X5_orders {l : Launch} {E : EV} (hE : GE E) (hS : ∀ σ, eSk E σ → SkM σ) {s s' : St} {r : Int32}  (h : F_X5_orders  s  = some (r, s')) : CT l E yX5_orders cX5_orders 4 (some .int) 10 239 [vr (some 0)] s (some (vi r)) s' := by
  refine CT.start hE (by decide) rfl [(0, vr (some 0))] rfl (fun X hX B => ?_)
  skip
  have B : FX X E cX5_orders 4 (some .int) "RoseThrowModel" "orders" (sn s) (ss s) 10 239 := B
  unfold F_X5_orders at h
  refine r_aload_n (j := 0) B dX5_orders_0 rfl rfl ?_
  refine r_iconst (v := 0) B dX5_orders_1 (by decide) ?_
  obtain ⟨s1, e2, h⟩ := nam_e h
  refine pI5 (k := 0) B e2 rfl (fun z => by rw [(hS _ z).1 0 (by decide)]; rfl) rfl q1517 rfl rfl (fun _ _ _ => rfl) rfl dX5_orders_2 ?_
  refine r_aload_n (j := 0) B dX5_orders_5 rfl rfl ?_
  refine r_iconst (v := -1) B dX5_orders_6 (by decide) ?_
  obtain ⟨s3, e4, h⟩ := nam_e h
  refine pI5 (k := 61) B e4 rfl (fun z => by rw [(hS _ z).1 0 (by decide)]; rfl) rfl q1578 rfl rfl (fun _ _ _ => rfl) rfl dX5_orders_7 ?_
  refine r_aload_n (j := 0) B dX5_orders_10 rfl rfl ?_
  refine r_iconst (v := 1) B dX5_orders_11 (by decide) ?_
  obtain ⟨r5, s6, hc7, h⟩ := bnd_e h
  refine r_callV0 (As := [vi (1 : Int32)]) (rest := []) B rfl rfl EX.same (c_X5_beginText B.ge hS hc7) (cw_X5_beginText rfl rfl) (fun z => RV.of 5 ((fun z => by rw [(hS _ z).1 0 (by decide)]; rfl) z) rfl rfl qs65) q1864 q1866 rfl dX5_orders_12 ?_
  refine r_aload_n (j := 0) B dX5_orders_15 rfl rfl ?_
  obtain ⟨r8, s9, hc10, h⟩ := bnd_e h
  refine r_callV0 (As := []) (rest := []) B rfl rfl EX.same (c_X5_readOrder B.ge hS hc10) (cw_X5_readOrder rfl rfl) (fun z => RV.of 5 ((fun z => by rw [(hS _ z).1 0 (by decide)]; rfl) z) rfl rfl qs116) q2184 q2186 rfl dX5_orders_16 ?_
  exact w_X5_orders_19 B hS FU s9 h
set_option maxHeartbeats 4000000 in
theorem cw_X5_orders {X : CX} {fr lo : Nat} (h1 : Nat.ble (10 + 1) fr = true) (h2 : Nat.ble (23 + 239) lo = true) : CW X fr lo yX5_orders cX5_orders 4 (some .int) 10 239 0 := ⟨q2183, q136, ⟨by decide +kernel, by decide +kernel, by decide +kernel⟩, Nat.le_of_ble_eq_true h1, Nat.le_of_ble_eq_true h2⟩

set_option maxHeartbeats 4000000 in
noncomputable def F_X5_stopped (s : St)  : Option (Int32 × St) := nam (setI s 0 0 (0 : Int32)) fun s1 => some ((si s1 0 61), s1)
set_option maxHeartbeats 4000000 in
theorem c_X5_stopped {l : Launch} {E : EV} (hE : GE E) (hS : ∀ σ, eSk E σ → SkM σ) {s s' : St} {r : Int32}  (h : F_X5_stopped  s  = some (r, s')) : CT l E yX5_stopped cX5_stopped 1 (some .int) 0 0 [vr (some 0)] s (some (vi r)) s' := by
  refine CT.start hE (by decide) rfl [(0, vr (some 0))] rfl (fun X hX B => ?_)
  skip
  have B : FX X E cX5_stopped 1 (some .int) "RoseThrowModel" "stopped" (sn s) (ss s) 0 0 := B
  unfold F_X5_stopped at h
  refine r_aload_n (j := 0) B dX5_stopped_0 rfl rfl ?_
  refine r_iconst (v := 0) B dX5_stopped_1 (by decide) ?_
  obtain ⟨s1, e2, h⟩ := nam_e h
  refine pI5 (k := 0) B e2 rfl (fun z => by rw [(hS _ z).1 0 (by decide)]; rfl) rfl q1517 rfl rfl (fun _ _ _ => rfl) rfl dX5_stopped_2 ?_
  refine r_aload_n (j := 0) B dX5_stopped_5 rfl rfl ?_
  refine g5 (k := 61) B (vi (si s1 0 61)) rfl (fun z => by rw [(hS _ z).1 0 (by decide)]; rfl) rfl q1578 rfl (fun _ => rfl) dX5_stopped_6 ?_
  exact r_iret B dX5_stopped_9 h
set_option maxHeartbeats 4000000 in
theorem cw_X5_stopped {X : CX} {fr lo : Nat} (h1 : Nat.ble (0 + 1) fr = true) (h2 : Nat.ble (20 + 0) lo = true) : CW X fr lo yX5_stopped cX5_stopped 1 (some .int) 0 0 0 := ⟨q2212, q136, ⟨by decide +kernel, by decide +kernel, by decide +kernel⟩, Nat.le_of_ble_eq_true h1, Nat.le_of_ble_eq_true h2⟩

set_option maxHeartbeats 4000000 in
noncomputable def F_X5_draw (s : St) (p0 : Int32) : Option (Int32 × St) := nam (setL s 0 63 ((((sl s 0 63) * (1103 : Int64)) + (12345 : Int64)) - (((sl s 0 63) * (1103 : Int64)) + (12345 : Int64)) / (1000003 : Int64) * (1000003 : Int64))) fun s1 => gd (nzl ((p0).toInt64)) <| some (((((sl s1 0 63) - (sl s1 0 63) / ((p0).toInt64) * ((p0).toInt64))).toInt32), s1)
set_option maxHeartbeats 4000000 in
theorem c_X5_draw {l : Launch} {E : EV} (hE : GE E) (hS : ∀ σ, eSk E σ → SkM σ) {s s' : St} {r : Int32} {p0 : Int32} (h : F_X5_draw  s p0 = some (r, s')) : CT l E yX5_draw cX5_draw 2 (some .int) 0 0 [vr (some 0), vi p0] s (some (vi r)) s' := by
  refine CT.start hE (by decide) rfl [(0, vr (some 0)), (1, vi p0)] rfl (fun X hX B => ?_)
  skip
  have B : FX X E cX5_draw 2 (some .int) "RoseThrowModel" "draw" (sn s) (ss s) 0 0 := B
  unfold F_X5_draw at h
  refine r_aload_n (j := 0) B dX5_draw_0 rfl rfl ?_
  refine r_aload_n (j := 0) B dX5_draw_1 rfl rfl ?_
  refine g5 (k := 63) B (vl (sl s 0 63)) rfl (fun z => by rw [(hS _ z).1 0 (by decide)]; rfl) rfl q1580 rfl (fun _ => rfl) dX5_draw_2 ?_
  refine r_ldc2 B dX5_draw_5 q2226 ?_
  refine r_lmul B dX5_draw_8 ?_
  refine r_ldc2 B dX5_draw_9 q2227 ?_
  refine r_ladd B dX5_draw_12 ?_
  refine r_ldc2 B dX5_draw_13 q2228 ?_
  refine r_lrem B dX5_draw_16 (by decide) ?_
  obtain ⟨s1, e2, h⟩ := nam_e h
  refine pL5 (k := 63) B e2 rfl (fun z => by rw [(hS _ z).1 0 (by decide)]; rfl) rfl q1580 rfl rfl rfl dX5_draw_17 ?_
  refine r_aload_n (j := 0) B dX5_draw_20 rfl rfl ?_
  refine g5 (k := 63) B (vl (sl s1 0 63)) rfl (fun z => by rw [(hS _ z).1 0 (by decide)]; rfl) rfl q1580 rfl (fun _ => rfl) dX5_draw_21 ?_
  refine r_iload_n (j := 1) B dX5_draw_24 rfl rfl ?_
  refine r_i2l B dX5_draw_25 ?_
  obtain ⟨hg3, h⟩ := gd_e h
  refine r_lrem B dX5_draw_26 (nzl_e hg3) ?_
  refine r_l2i B dX5_draw_27 ?_
  exact r_iret B dX5_draw_28 h
set_option maxHeartbeats 4000000 in
theorem cw_X5_draw {X : CX} {fr lo : Nat} (h1 : Nat.ble (0 + 1) fr = true) (h2 : Nat.ble (21 + 0) lo = true) : CW X fr lo yX5_draw cX5_draw 2 (some .int) 0 0 1 := ⟨q2225, q136, ⟨by decide +kernel, by decide +kernel, by decide +kernel⟩, Nat.le_of_ble_eq_true h1, Nat.le_of_ble_eq_true h2⟩

set_option maxHeartbeats 4000000 in
noncomputable def F_X5_drawCell_11 : Nat → St → Int32 → Int32 → Option (Int32 × St)
  | 0 => fun _ _ _ => none
  | n + 1 => fun s x1 x2 => gd (inb x2 9) <| if x1 < (si s 24 x2.toNatClampNeg) then (gd (inb x2 9) <| some ((si s 23 x2.toNatClampNeg), s)) else (gd (inb x2 9) <| nam (x1 - (si s 24 x2.toNatClampNeg)) fun y5 => F_X5_drawCell_11  n s y5 (x2 + (1)))
set_option maxHeartbeats 4000000 in
theorem w_X5_drawCell_11 {X : CX} {E : EV} {a0 s' : St} {r : Int32} (B : FX X E cX5_drawCell 3 (some .int) "RoseThrowModel" "drawCell" (sn a0) (ss a0) 1 21) (hS : ∀ σ, eSk E σ → SkM σ) : ∀ (n : Nat) (s : St) (x1 : Int32) (x2 : Int32), F_X5_drawCell_11   n s x1 x2 = some (r, s') → J X E (sn a0) (ss a0) 3 (QR X E a0 (some (vi r)) s') s 11 [(0, vr (some 0)), (1, vi x1), (2, vi x2)] [] := by
  intro n
  induction n with
  | zero => intro s x1 x2 h; exact absurd (show (none : Option (Int32 × St)) = _ from h) (by simp)
  | succ n ih =>
    intro s x1 x2 h
    rw [F_X5_drawCell_11] at h
    refine r_iload_n (j := 1) B dX5_drawCell_11 rfl rfl ?_
    refine r_aload_n (j := 0) B dX5_drawCell_12 rfl rfl ?_
    refine g5 (k := 44) B (vr (some 24)) rfl (fun z => by rw [(hS _ z).1 0 (by decide)]; rfl) rfl q1561 rfl (fun z => by rw [(hS _ z).2 _ (List.mem_of_getElem? (i := 23) rfl)]; rfl) dX5_drawCell_13 ?_
    refine r_iload_n (j := 2) B dX5_drawCell_16 rfl rfl ?_
    obtain ⟨hg1, h⟩ := gd_e h
    refine r_iald B rfl (fun z => (hS _ z).1 24 (by decide)) hg1 dX5_drawCell_17 ?_
    refine r_ic_lt (tgt := 36) B dX5_drawCell_18 (by decide) (fun cn2 => ?_) (fun cn2 => ?_)
    · have h := ot cn2 h
      refine r_aload_n (j := 0) B dX5_drawCell_36 rfl rfl ?_
      refine g5 (k := 43) B (vr (some 23)) rfl (fun z => by rw [(hS _ z).1 0 (by decide)]; rfl) rfl q1560 rfl (fun z => by rw [(hS _ z).2 _ (List.mem_of_getElem? (i := 22) rfl)]; rfl) dX5_drawCell_37 ?_
      refine r_iload_n (j := 2) B dX5_drawCell_40 rfl rfl ?_
      obtain ⟨hg3, h⟩ := gd_e h
      refine r_iald B rfl (fun z => (hS _ z).1 23 (by decide)) hg3 dX5_drawCell_41 ?_
      exact r_iret B dX5_drawCell_42 h
    · have h := of cn2 h
      refine r_iload_n (j := 1) B dX5_drawCell_21 rfl rfl ?_
      refine r_aload_n (j := 0) B dX5_drawCell_22 rfl rfl ?_
      refine g5 (k := 44) B (vr (some 24)) rfl (fun z => by rw [(hS _ z).1 0 (by decide)]; rfl) rfl q1561 rfl (fun z => by rw [(hS _ z).2 _ (List.mem_of_getElem? (i := 23) rfl)]; rfl) dX5_drawCell_23 ?_
      refine r_iload_n (j := 2) B dX5_drawCell_26 rfl rfl ?_
      obtain ⟨hg4, h⟩ := gd_e h
      refine r_iald B rfl (fun z => (hS _ z).1 24 (by decide)) hg4 dX5_drawCell_27 ?_
      refine r_isub B dX5_drawCell_28 ?_
      obtain ⟨y5, e6, h⟩ := nam_e h
      refine r_topi e6 ?_
      refine r_istore_n (L' := [(0, vr (some 0)), (1, vi y5), (2, vi x2)]) B dX5_drawCell_29 rfl (by decide) rfl rfl rfl ?_
      refine r_iinc (j := 2) (v := (x2 + (1))) (L' := [(0, vr (some 0)), (1, vi y5), (2, vi (x2 + (1)))]) B dX5_drawCell_30 rfl rfl (by decide) rfl rfl rfl ?_
      refine r_goto (tgt := 11) B dX5_drawCell_33 (by decide) ?_
      exact ih s y5 (x2 + (1)) h
set_option maxHeartbeats 4000000 in
noncomputable def F_X5_drawCell (s : St)  : Option (Int32 × St) := bnd (F_X5_draw s (si s 0 45)) fun r1 s2 => F_X5_drawCell_11 FU s2 r1 (0 : Int32)
set_option maxHeartbeats 4000000 in
theorem c_X5_drawCell {l : Launch} {E : EV} (hE : GE E) (hS : ∀ σ, eSk E σ → SkM σ) {s s' : St} {r : Int32}  (h : F_X5_drawCell  s  = some (r, s')) : CT l E yX5_drawCell cX5_drawCell 3 (some .int) 1 21 [vr (some 0)] s (some (vi r)) s' := by
  refine CT.start hE (by decide) rfl [(0, vr (some 0))] rfl (fun X hX B => ?_)
  skip
  have B : FX X E cX5_drawCell 3 (some .int) "RoseThrowModel" "drawCell" (sn s) (ss s) 1 21 := B
  unfold F_X5_drawCell at h
  refine r_aload_n (j := 0) B dX5_drawCell_0 rfl rfl ?_
  refine r_aload_n (j := 0) B dX5_drawCell_1 rfl rfl ?_
  refine g5 (k := 45) B (vi (si s 0 45)) rfl (fun z => by rw [(hS _ z).1 0 (by decide)]; rfl) rfl q1562 rfl (fun _ => rfl) dX5_drawCell_2 ?_
  obtain ⟨r1, s2, hc3, h⟩ := bnd_e h
  refine r_callVv (As := [vi (si s 0 45)]) (rest := []) B rfl rfl EX.same (c_X5_draw B.ge hS hc3) (cw_X5_draw rfl rfl) (fun z => RV.of 5 ((fun z => by rw [(hS _ z).1 0 (by decide)]; rfl) z) rfl rfl qs122) q2222 q2224 rfl dX5_drawCell_5 ?_
  refine r_istore_n (L' := [(0, vr (some 0)), (1, vi r1)]) B dX5_drawCell_8 rfl (by decide) rfl rfl rfl ?_
  refine r_iconst (v := 0) B dX5_drawCell_9 (by decide) ?_
  refine r_istore_n (L' := [(0, vr (some 0)), (1, vi r1), (2, vi (0 : Int32))]) B dX5_drawCell_10 rfl (by decide) rfl rfl rfl ?_
  exact w_X5_drawCell_11 B hS FU s2 r1 (0 : Int32) h
set_option maxHeartbeats 4000000 in
theorem cw_X5_drawCell {X : CX} {fr lo : Nat} (h1 : Nat.ble (1 + 1) fr = true) (h2 : Nat.ble (22 + 21) lo = true) : CW X fr lo yX5_drawCell cX5_drawCell 3 (some .int) 1 21 0 := ⟨q2221, q136, ⟨by decide +kernel, by decide +kernel, by decide +kernel⟩, Nat.le_of_ble_eq_true h1, Nat.le_of_ble_eq_true h2⟩

set_option maxHeartbeats 4000000 in
noncomputable def F_X5_drawHolder_23 : Nat → St → Int32 → Int32 → Option (Int32 × St)
  | 0 => fun _ _ _ => none
  | n + 1 => fun s x1 x2 => if (6 : Int32) ≤ x2 then (some ((-1 : Int32), s)) else (if (si s 0 49) ≤ 0 then (some ((-1 : Int32), s)) else (gd (inb x2 6) <| if (si s 25 x2.toNatClampNeg) = 0 then (F_X5_drawHolder_23  n s x1 (x2 + (1))) else (if x1 = 0 then (some (x2, s)) else (F_X5_drawHolder_23  n s (x1 + (-1)) (x2 + (1))))))
set_option maxHeartbeats 4000000 in
theorem w_X5_drawHolder_23 {X : CX} {E : EV} {a0 s' : St} {r : Int32} (B : FX X E cX5_drawHolder 3 (some .int) "RoseThrowModel" "drawHolder" (sn a0) (ss a0) 1 21) (hS : ∀ σ, eSk E σ → SkM σ) : ∀ (n : Nat) (s : St) (x1 : Int32) (x2 : Int32), F_X5_drawHolder_23   n s x1 x2 = some (r, s') → J X E (sn a0) (ss a0) 3 (QR X E a0 (some (vi r)) s') s 23 [(0, vr (some 0)), (1, vi x1), (2, vi x2)] [] := by
  intro n
  induction n with
  | zero => intro s x1 x2 h; exact absurd (show (none : Option (Int32 × St)) = _ from h) (by simp)
  | succ n ih =>
    intro s x1 x2 h
    rw [F_X5_drawHolder_23] at h
    refine r_iload_n (j := 2) B dX5_drawHolder_23 rfl rfl ?_
    refine r_bipush (v := 6) B dX5_drawHolder_24 (by decide) ?_
    refine r_ic_ge (tgt := 60) B dX5_drawHolder_26 (by decide) (fun cn1 => ?_) (fun cn1 => ?_)
    · have h := ot cn1 h
      refine r_iconst (v := -1) B dX5_drawHolder_60 (by decide) ?_
      exact r_iret B dX5_drawHolder_61 h
    · have h := of cn1 h
      refine r_aload_n (j := 0) B dX5_drawHolder_29 rfl rfl ?_
      refine g5 (k := 49) B (vi (si s 0 49)) rfl (fun z => by rw [(hS _ z).1 0 (by decide)]; rfl) rfl q1566 rfl (fun _ => rfl) dX5_drawHolder_30 ?_
      refine r_if_le (tgt := 60) B dX5_drawHolder_33 (by decide) (fun cn2 => ?_) (fun cn2 => ?_)
      · have h := ot cn2 h
        refine r_iconst (v := -1) B dX5_drawHolder_60 (by decide) ?_
        exact r_iret B dX5_drawHolder_61 h
      · have h := of cn2 h
        refine r_aload_n (j := 0) B dX5_drawHolder_36 rfl rfl ?_
        refine g5 (k := 48) B (vr (some 25)) rfl (fun z => by rw [(hS _ z).1 0 (by decide)]; rfl) rfl q1565 rfl (fun z => by rw [(hS _ z).2 _ (List.mem_of_getElem? (i := 24) rfl)]; rfl) dX5_drawHolder_37 ?_
        refine r_iload_n (j := 2) B dX5_drawHolder_40 rfl rfl ?_
        obtain ⟨hg3, h⟩ := gd_e h
        refine r_zald B rfl (fun z => (hS _ z).1 25 (by decide)) hg3 dX5_drawHolder_41 ?_
        refine r_if_eq (tgt := 54) B dX5_drawHolder_42 (by decide) (fun cn4 => ?_) (fun cn4 => ?_)
        · have h := ot cn4 h
          refine r_iinc (j := 2) (v := (x2 + (1))) (L' := [(0, vr (some 0)), (1, vi x1), (2, vi (x2 + (1)))]) B dX5_drawHolder_54 rfl rfl (by decide) rfl rfl rfl ?_
          refine r_goto (tgt := 23) B dX5_drawHolder_57 (by decide) ?_
          exact ih s x1 (x2 + (1)) h
        · have h := of cn4 h
          refine r_iload_n (j := 1) B dX5_drawHolder_45 rfl rfl ?_
          refine r_if_ne (tgt := 51) B dX5_drawHolder_46 (by decide) (fun cn5 => ?_) (fun cn5 => ?_)
          · have h := of cn5 h
            refine r_iinc (j := 1) (v := (x1 + (-1))) (L' := [(0, vr (some 0)), (1, vi (x1 + (-1))), (2, vi x2)]) B dX5_drawHolder_51 rfl rfl (by decide) rfl rfl rfl ?_
            refine r_iinc (j := 2) (v := (x2 + (1))) (L' := [(0, vr (some 0)), (1, vi (x1 + (-1))), (2, vi (x2 + (1)))]) B dX5_drawHolder_54 rfl rfl (by decide) rfl rfl rfl ?_
            refine r_goto (tgt := 23) B dX5_drawHolder_57 (by decide) ?_
            exact ih s (x1 + (-1)) (x2 + (1)) h
          · have h := ot cn5 h
            refine r_iload_n (j := 2) B dX5_drawHolder_49 rfl rfl ?_
            exact r_iret B dX5_drawHolder_50 h
set_option maxHeartbeats 4000000 in
noncomputable def F_X5_drawHolder (s : St)  : Option (Int32 × St) := if (si s 0 49) ≤ (1 : Int32) then (F_X5_drawHolder_23 FU s (0 : Int32) (0 : Int32)) else (bnd (F_X5_draw s (si s 0 49)) fun r2 s3 => F_X5_drawHolder_23 FU s3 r2 (0 : Int32))
set_option maxHeartbeats 4000000 in
theorem c_X5_drawHolder {l : Launch} {E : EV} (hE : GE E) (hS : ∀ σ, eSk E σ → SkM σ) {s s' : St} {r : Int32}  (h : F_X5_drawHolder  s  = some (r, s')) : CT l E yX5_drawHolder cX5_drawHolder 3 (some .int) 1 21 [vr (some 0)] s (some (vi r)) s' := by
  refine CT.start hE (by decide) rfl [(0, vr (some 0))] rfl (fun X hX B => ?_)
  skip
  have B : FX X E cX5_drawHolder 3 (some .int) "RoseThrowModel" "drawHolder" (sn s) (ss s) 1 21 := B
  unfold F_X5_drawHolder at h
  refine r_aload_n (j := 0) B dX5_drawHolder_0 rfl rfl ?_
  refine g5 (k := 49) B (vi (si s 0 49)) rfl (fun z => by rw [(hS _ z).1 0 (by decide)]; rfl) rfl q1566 rfl (fun _ => rfl) dX5_drawHolder_1 ?_
  refine r_iconst (v := 1) B dX5_drawHolder_4 (by decide) ?_
  refine r_ic_le (tgt := 19) B dX5_drawHolder_5 (by decide) (fun cn1 => ?_) (fun cn1 => ?_)
  · have h := ot cn1 h
    refine r_iconst (v := 0) B dX5_drawHolder_19 (by decide) ?_
    refine r_istore_n (L' := [(0, vr (some 0)), (1, vi (0 : Int32))]) B dX5_drawHolder_20 rfl (by decide) rfl rfl rfl ?_
    refine r_iconst (v := 0) B dX5_drawHolder_21 (by decide) ?_
    refine r_istore_n (L' := [(0, vr (some 0)), (1, vi (0 : Int32)), (2, vi (0 : Int32))]) B dX5_drawHolder_22 rfl (by decide) rfl rfl rfl ?_
    exact w_X5_drawHolder_23 B hS FU s (0 : Int32) (0 : Int32) h
  · have h := of cn1 h
    refine r_aload_n (j := 0) B dX5_drawHolder_8 rfl rfl ?_
    refine r_aload_n (j := 0) B dX5_drawHolder_9 rfl rfl ?_
    refine g5 (k := 49) B (vi (si s 0 49)) rfl (fun z => by rw [(hS _ z).1 0 (by decide)]; rfl) rfl q1566 rfl (fun _ => rfl) dX5_drawHolder_10 ?_
    obtain ⟨r2, s3, hc4, h⟩ := bnd_e h
    refine r_callVv (As := [vi (si s 0 49)]) (rest := []) B rfl rfl EX.same (c_X5_draw B.ge hS hc4) (cw_X5_draw rfl rfl) (fun z => RV.of 5 ((fun z => by rw [(hS _ z).1 0 (by decide)]; rfl) z) rfl rfl qs122) q2222 q2224 rfl dX5_drawHolder_13 ?_
    refine r_goto (tgt := 20) B dX5_drawHolder_16 (by decide) ?_
    refine r_istore_n (L' := [(0, vr (some 0)), (1, vi r2)]) B dX5_drawHolder_20 rfl (by decide) rfl rfl rfl ?_
    refine r_iconst (v := 0) B dX5_drawHolder_21 (by decide) ?_
    refine r_istore_n (L' := [(0, vr (some 0)), (1, vi r2), (2, vi (0 : Int32))]) B dX5_drawHolder_22 rfl (by decide) rfl rfl rfl ?_
    exact w_X5_drawHolder_23 B hS FU s3 r2 (0 : Int32) h
set_option maxHeartbeats 4000000 in
theorem cw_X5_drawHolder {X : CX} {fr lo : Nat} (h1 : Nat.ble (1 + 1) fr = true) (h2 : Nat.ble (22 + 21) lo = true) : CW X fr lo yX5_drawHolder cX5_drawHolder 3 (some .int) 1 21 0 := ⟨q2232, q136, ⟨by decide +kernel, by decide +kernel, by decide +kernel⟩, Nat.le_of_ble_eq_true h1, Nat.le_of_ble_eq_true h2⟩

set_option maxHeartbeats 4000000 in
noncomputable def F_X5_wedNow_20 (s : St) (x1 : Int32) (z0 : Int32) : Option (Int32 × St) := gd (inb (((2 : Int32) * x1) + (1 : Int32)) 12) <| gd (inb (((2 : Int32) * x1) + (1 : Int32)) 12) <| nam (setI s 28 (((2 : Int32) * x1) + (1 : Int32)).toNatClampNeg ((si s 28 (((2 : Int32) * x1) + (1 : Int32)).toNatClampNeg) + z0)) fun s3 => some (z0, s3)
set_option maxHeartbeats 4000000 in
theorem w_X5_wedNow_20 {X : CX} {E : EV} {a0 s' : St} {r : Int32} (B : FX X E cX5_wedNow 4 (some .int) "RoseThrowModel" "wedNow" (sn a0) (ss a0) 6 142) (hS : ∀ σ, eSk E σ → SkM σ) (s : St) (x1 : Int32) (z0 : Int32) (h : F_X5_wedNow_20   s x1 z0 = some (r, s')) : J X E (sn a0) (ss a0) 4 (QR X E a0 (some (vi r)) s') s 20 [(0, vr (some 0)), (1, vi x1)] [vi z0] := by
  unfold F_X5_wedNow_20 at h
  refine r_istore_n (L' := [(0, vr (some 0)), (1, vi x1), (3, vi z0)]) B dX5_wedNow_20 rfl (by decide) rfl rfl rfl ?_
  refine r_aload_n (j := 0) B dX5_wedNow_21 rfl rfl ?_
  refine g5 (k := 64) B (vr (some 28)) rfl (fun z => by rw [(hS _ z).1 0 (by decide)]; rfl) rfl q1581 rfl (fun z => by rw [(hS _ z).2 _ (List.mem_of_getElem? (i := 27) rfl)]; rfl) dX5_wedNow_22 ?_
  refine r_iconst (v := 2) B dX5_wedNow_25 (by decide) ?_
  refine r_iload_n (j := 1) B dX5_wedNow_26 rfl rfl ?_
  refine r_imul B dX5_wedNow_27 ?_
  refine r_iconst (v := 1) B dX5_wedNow_28 (by decide) ?_
  refine r_iadd B dX5_wedNow_29 ?_
  refine r_dup2 B dX5_wedNow_30 rfl rfl ?_
  obtain ⟨hg1, h⟩ := gd_e h
  refine r_iald B rfl (fun z => (hS _ z).1 28 (by decide)) hg1 dX5_wedNow_31 ?_
  refine r_iload_n (j := 2) B dX5_wedNow_32 rfl rfl ?_
  refine r_iadd B dX5_wedNow_33 ?_
  obtain ⟨hg2, h⟩ := gd_e h
  obtain ⟨s3, e4, h⟩ := nam_e h
  refine r_iast B e4 rfl (fun z => (hS _ z).1 28 (by decide)) hg2 dX5_wedNow_34 ?_
  refine r_iload_n (j := 2) B dX5_wedNow_35 rfl rfl ?_
  exact r_iret B dX5_wedNow_36 h
set_option maxHeartbeats 4000000 in
noncomputable def F_X5_wedNow (s : St) (p0 : Int32) (p1 : Int32) : Option (Int32 × St) := bnd (F_X5_draw s (100 : Int32)) fun r1 s2 => bnd (F_X5_wedOf s2 p0 p1) fun r4 s5 => if r4 ≤ r1 then (F_X5_wedNow_20 s5 p0 (0 : Int32)) else (F_X5_wedNow_20 s5 p0 (1 : Int32))
set_option maxHeartbeats 4000000 in
theorem c_X5_wedNow {l : Launch} {E : EV} (hE : GE E) (hS : ∀ σ, eSk E σ → SkM σ) {s s' : St} {r : Int32} {p0 : Int32} {p1 : Int32} (h : F_X5_wedNow  s p0 p1 = some (r, s')) : CT l E yX5_wedNow cX5_wedNow 4 (some .int) 6 142 [vr (some 0), vi p0, vi p1] s (some (vi r)) s' := by
  refine CT.start hE (by decide) rfl [(0, vr (some 0)), (1, vi p0), (2, vi p1)] rfl (fun X hX B => ?_)
  skip
  have B : FX X E cX5_wedNow 4 (some .int) "RoseThrowModel" "wedNow" (sn s) (ss s) 6 142 := B
  unfold F_X5_wedNow at h
  refine r_aload_n (j := 0) B dX5_wedNow_0 rfl rfl ?_
  refine r_bipush (v := 100) B dX5_wedNow_1 (by decide) ?_
  obtain ⟨r1, s2, hc3, h⟩ := bnd_e h
  refine r_callVv (As := [vi (100 : Int32)]) (rest := []) B rfl rfl EX.same (c_X5_draw B.ge hS hc3) (cw_X5_draw rfl rfl) (fun z => RV.of 5 ((fun z => by rw [(hS _ z).1 0 (by decide)]; rfl) z) rfl rfl qs122) q2222 q2224 rfl dX5_wedNow_3 ?_
  refine r_aload_n (j := 0) B dX5_wedNow_6 rfl rfl ?_
  refine r_iload_n (j := 1) B dX5_wedNow_7 rfl rfl ?_
  refine r_iload_n (j := 2) B dX5_wedNow_8 rfl rfl ?_
  obtain ⟨r4, s5, hc6, h⟩ := bnd_e h
  refine r_callVv (As := [vi p0, vi p1]) (rest := [vi r1]) B rfl rfl EX.same (c_X5_wedOf B.ge hS hc6) (cw_X5_wedOf rfl rfl) (fun z => RV.of 5 ((fun z => by rw [(hS _ z).1 0 (by decide)]; rfl) z) rfl rfl qs89) q1992 q1994 rfl dX5_wedNow_9 ?_
  refine r_ic_ge (tgt := 19) B dX5_wedNow_12 (by decide) (fun cn7 => ?_) (fun cn7 => ?_)
  · have h := ot cn7 h
    refine r_iconst (v := 0) B dX5_wedNow_19 (by decide) ?_
    refine r_pick [0, 1] (L' := [(0, vr (some 0)), (1, vi p0)]) rfl ?_
    exact w_X5_wedNow_20 B hS s5 p0 (0 : Int32) h
  · have h := of cn7 h
    refine r_iconst (v := 1) B dX5_wedNow_15 (by decide) ?_
    refine r_goto (tgt := 20) B dX5_wedNow_16 (by decide) ?_
    refine r_pick [0, 1] (L' := [(0, vr (some 0)), (1, vi p0)]) rfl ?_
    exact w_X5_wedNow_20 B hS s5 p0 (1 : Int32) h
set_option maxHeartbeats 4000000 in
theorem cw_X5_wedNow {X : CX} {fr lo : Nat} (h1 : Nat.ble (6 + 1) fr = true) (h2 : Nat.ble (23 + 142) lo = true) : CW X fr lo yX5_wedNow cX5_wedNow 4 (some .int) 6 142 2 := ⟨q2236, q136, ⟨by decide +kernel, by decide +kernel, by decide +kernel⟩, Nat.le_of_ble_eq_true h1, Nat.le_of_ble_eq_true h2⟩

set_option maxHeartbeats 4000000 in
noncomputable def F_X5_weddings_29 (s : St)  : Option (Int32 × St) := bnd (F_X5_tell s (-1 : Int32)) fun r1 s2 => some (r1, s2)
set_option maxHeartbeats 4000000 in
theorem w_X5_weddings_29 {X : CX} {E : EV} {a0 s' : St} {r : Int32} (B : FX X E cX5_weddings 7 (some .int) "RoseThrowModel" "weddings" (sn a0) (ss a0) 8 191) (hS : ∀ σ, eSk E σ → SkM σ) (s : St)  (h : F_X5_weddings_29   s  = some (r, s')) : J X E (sn a0) (ss a0) 7 (QR X E a0 (some (vi r)) s') s 29 [(0, vr (some 0))] [] := by
  unfold F_X5_weddings_29 at h
  refine r_aload_n (j := 0) B dX5_weddings_29 rfl rfl ?_
  refine r_iconst (v := -1) B dX5_weddings_30 (by decide) ?_
  obtain ⟨r1, s2, hc3, h⟩ := bnd_e h
  refine r_callVv (As := [vi (-1 : Int32)]) (rest := []) B rfl rfl EX.same (c_X5_tell B.ge hS hc3) (cw_X5_tell rfl rfl) (fun z => RV.of 5 ((fun z => by rw [(hS _ z).1 0 (by decide)]; rfl) z) rfl rfl qs47) q1724 q1726 rfl dX5_weddings_31 ?_
  exact r_iret B dX5_weddings_34 h
set_option maxHeartbeats 4000000 in
noncomputable def F_X5_weddings_146 (k94 : St → Int32 → Int32 → Int32 → Option (Int32 × St)) : Nat → St → Int32 → Int32 → Int32 → Int32 → Int32 → Option (Int32 × St)
  | 0 => fun _ _ _ _ _ _ => none
  | n + 1 => fun s x2 x3 x4 x5 x6 => if (si s 0 65) ≤ x6 then (k94 s x2 x3 (x4 + (1))) else (if x6 = x5 then (F_X5_weddings_146 k94 n s x2 (x3 + (0 : Int32)) x4 x5 (x6 + (1))) else (bnd (F_X5_wedNow s x6 (0 : Int32)) fun r3 s4 => F_X5_weddings_146 k94 n s4 x2 (x3 + r3) x4 x5 (x6 + (1))))
set_option maxHeartbeats 4000000 in
theorem w_X5_weddings_146 {X : CX} {E : EV} {a0 s' : St} {r : Int32} (B : FX X E cX5_weddings 7 (some .int) "RoseThrowModel" "weddings" (sn a0) (ss a0) 8 191) (hS : ∀ σ, eSk E σ → SkM σ) (k94 : St → Int32 → Int32 → Int32 → Option (Int32 × St)) (hk94 : ∀ (s : St) (x2 : Int32) (x3 : Int32) (x4 : Int32), k94 s x2 x3 x4 = some (r, s') → J X E (sn a0) (ss a0) 7 (QR X E a0 (some (vi r)) s') s 94 [(0, vr (some 0)), (2, vi x2), (3, vi x3), (4, vi x4)] []) : ∀ (n : Nat) (s : St) (x2 : Int32) (x3 : Int32) (x4 : Int32) (x5 : Int32) (x6 : Int32), F_X5_weddings_146  k94 n s x2 x3 x4 x5 x6 = some (r, s') → J X E (sn a0) (ss a0) 7 (QR X E a0 (some (vi r)) s') s 146 [(0, vr (some 0)), (2, vi x2), (3, vi x3), (4, vi x4), (5, vi x5), (6, vi x6)] [] := by
  intro n
  induction n with
  | zero => intro s x2 x3 x4 x5 x6 h; exact absurd (show (none : Option (Int32 × St)) = _ from h) (by simp)
  | succ n ih =>
    intro s x2 x3 x4 x5 x6 h
    rw [F_X5_weddings_146] at h
    refine r_iload (j := 5) B dX5_weddings_146 rfl ?_
    refine r_aload_n (j := 0) B dX5_weddings_148 rfl rfl ?_
    refine g5 (k := 65) B (vi (si s 0 65)) rfl (fun z => by rw [(hS _ z).1 0 (by decide)]; rfl) rfl q1582 rfl (fun _ => rfl) dX5_weddings_149 ?_
    refine r_ic_ge (tgt := 182) B dX5_weddings_152 (by decide) (fun cn1 => ?_) (fun cn1 => ?_)
    · have h := ot cn1 h
      refine r_iinc (j := 3) (v := (x4 + (1))) (L' := [(0, vr (some 0)), (2, vi x2), (3, vi x3), (4, vi (x4 + (1))), (5, vi x5), (6, vi x6)]) B dX5_weddings_182 rfl rfl (by decide) rfl rfl rfl ?_
      refine r_goto (tgt := 94) B dX5_weddings_185 (by decide) ?_
      refine r_pick [0, 1, 2, 3] (L' := [(0, vr (some 0)), (2, vi x2), (3, vi x3), (4, vi (x4 + (1)))]) rfl ?_
      exact hk94 s x2 x3 (x4 + (1)) h
    · have h := of cn1 h
      refine r_iload_n (j := 2) B dX5_weddings_155 rfl rfl ?_
      refine r_iload (j := 5) B dX5_weddings_156 rfl ?_
      refine r_iload (j := 4) B dX5_weddings_158 rfl ?_
      refine r_ic_ne (tgt := 167) B dX5_weddings_160 (by decide) (fun cn2 => ?_) (fun cn2 => ?_)
      · have h := of cn2 h
        refine r_aload_n (j := 0) B dX5_weddings_167 rfl rfl ?_
        refine r_iload (j := 5) B dX5_weddings_168 rfl ?_
        refine r_iconst (v := 0) B dX5_weddings_170 (by decide) ?_
        obtain ⟨r3, s4, hc5, h⟩ := bnd_e h
        refine r_callVv (As := [vi x6, vi (0 : Int32)]) (rest := [vi x3]) B rfl rfl EX.same (c_X5_wedNow B.ge hS hc5) (cw_X5_wedNow rfl rfl) (fun z => RV.of 5 ((fun z => by rw [(hS _ z).1 0 (by decide)]; rfl) z) rfl rfl qs124) q2233 q2235 rfl dX5_weddings_171 ?_
        refine r_iadd B dX5_weddings_174 ?_
        refine r_istore_n (L' := [(0, vr (some 0)), (2, vi x2), (3, vi (x3 + r3)), (4, vi x4), (5, vi x5), (6, vi x6)]) B dX5_weddings_175 rfl (by decide) rfl rfl rfl ?_
        refine r_iinc (j := 5) (v := (x6 + (1))) (L' := [(0, vr (some 0)), (2, vi x2), (3, vi (x3 + r3)), (4, vi x4), (5, vi x5), (6, vi (x6 + (1)))]) B dX5_weddings_176 rfl rfl (by decide) rfl rfl rfl ?_
        refine r_goto (tgt := 146) B dX5_weddings_179 (by decide) ?_
        exact ih s4 x2 (x3 + r3) x4 x5 (x6 + (1)) h
      · have h := ot cn2 h
        refine r_iconst (v := 0) B dX5_weddings_163 (by decide) ?_
        refine r_goto (tgt := 174) B dX5_weddings_164 (by decide) ?_
        refine r_iadd B dX5_weddings_174 ?_
        refine r_istore_n (L' := [(0, vr (some 0)), (2, vi x2), (3, vi (x3 + (0 : Int32))), (4, vi x4), (5, vi x5), (6, vi x6)]) B dX5_weddings_175 rfl (by decide) rfl rfl rfl ?_
        refine r_iinc (j := 5) (v := (x6 + (1))) (L' := [(0, vr (some 0)), (2, vi x2), (3, vi (x3 + (0 : Int32))), (4, vi x4), (5, vi x5), (6, vi (x6 + (1)))]) B dX5_weddings_176 rfl rfl (by decide) rfl rfl rfl ?_
        refine r_goto (tgt := 146) B dX5_weddings_179 (by decide) ?_
        exact ih s x2 (x3 + (0 : Int32)) x4 x5 (x6 + (1)) h
set_option maxHeartbeats 4000000 in
noncomputable def F_X5_weddings_94 : Nat → St → Int32 → Int32 → Int32 → Option (Int32 × St)
  | 0 => fun _ _ _ _ => none
  | n + 1 => fun s x2 x3 x4 => if x2 ≤ x4 then (bnd (F_X5_tell s x3) fun r2 s3 => some (r2, s3)) else (bnd (F_X5_drawCell s) fun r5 s6 => bnd (F_X5_findHolders s6 r5) fun _ s9 => bnd (F_X5_drawHolder s9) fun r11 s12 => if r11 = (-1 : Int32) then (F_X5_weddings_146 (F_X5_weddings_94  n) FU s12 x2 x3 x4 r11 (0 : Int32)) else (gd (inb ((2 : Int32) * r11) 12) <| gd (inb ((2 : Int32) * r11) 12) <| nam (setI s12 28 ((2 : Int32) * r11).toNatClampNeg ((si s12 28 ((2 : Int32) * r11).toNatClampNeg) + (1 : Int32))) fun s17 => bnd (F_X5_wedNow s17 r11 (1 : Int32)) fun r19 s20 => F_X5_weddings_146 (F_X5_weddings_94  n) FU s20 x2 (x3 + r19) x4 r11 (0 : Int32)))
set_option maxHeartbeats 4000000 in
theorem w_X5_weddings_94 {X : CX} {E : EV} {a0 s' : St} {r : Int32} (B : FX X E cX5_weddings 7 (some .int) "RoseThrowModel" "weddings" (sn a0) (ss a0) 8 191) (hS : ∀ σ, eSk E σ → SkM σ) : ∀ (n : Nat) (s : St) (x2 : Int32) (x3 : Int32) (x4 : Int32), F_X5_weddings_94   n s x2 x3 x4 = some (r, s') → J X E (sn a0) (ss a0) 7 (QR X E a0 (some (vi r)) s') s 94 [(0, vr (some 0)), (2, vi x2), (3, vi x3), (4, vi x4)] [] := by
  intro n
  induction n with
  | zero => intro s x2 x3 x4 h; exact absurd (show (none : Option (Int32 × St)) = _ from h) (by simp)
  | succ n ih =>
    intro s x2 x3 x4 h
    rw [F_X5_weddings_94] at h
    refine r_iload (j := 3) B dX5_weddings_94 rfl ?_
    refine r_iload_n (j := 1) B dX5_weddings_96 rfl rfl ?_
    refine r_ic_ge (tgt := 188) B dX5_weddings_97 (by decide) (fun cn1 => ?_) (fun cn1 => ?_)
    · have h := ot cn1 h
      refine r_aload_n (j := 0) B dX5_weddings_188 rfl rfl ?_
      refine r_iload_n (j := 2) B dX5_weddings_189 rfl rfl ?_
      obtain ⟨r2, s3, hc4, h⟩ := bnd_e h
      refine r_callVv (As := [vi x3]) (rest := []) B rfl rfl EX.same (c_X5_tell B.ge hS hc4) (cw_X5_tell rfl rfl) (fun z => RV.of 5 ((fun z => by rw [(hS _ z).1 0 (by decide)]; rfl) z) rfl rfl qs47) q1724 q1726 rfl dX5_weddings_190 ?_
      exact r_iret B dX5_weddings_193 h
    · have h := of cn1 h
      refine r_aload_n (j := 0) B dX5_weddings_100 rfl rfl ?_
      refine r_aload_n (j := 0) B dX5_weddings_101 rfl rfl ?_
      obtain ⟨r5, s6, hc7, h⟩ := bnd_e h
      refine r_callVv (As := []) (rest := [vr (some 0)]) B rfl rfl EX.same (c_X5_drawCell B.ge hS hc7) (cw_X5_drawCell rfl rfl) (fun z => RV.of 5 ((fun z => by rw [(hS _ z).1 0 (by decide)]; rfl) z) rfl rfl qs121) q2218 q2220 rfl dX5_weddings_102 ?_
      obtain ⟨r8, s9, hc10, h⟩ := bnd_e h
      refine r_callV0 (As := [vi r5]) (rest := []) B rfl rfl EX.same (c_X5_findHolders B.ge hS hc10) (cw_X5_findHolders rfl rfl) (fun z => RV.of 5 ((fun z => by rw [(hS _ z).1 0 (by decide)]; rfl) z) rfl rfl qs99) q2040 q2042 rfl dX5_weddings_105 ?_
      refine r_aload_n (j := 0) B dX5_weddings_108 rfl rfl ?_
      obtain ⟨r11, s12, hc13, h⟩ := bnd_e h
      refine r_callVv (As := []) (rest := []) B rfl rfl EX.same (c_X5_drawHolder B.ge hS hc13) (cw_X5_drawHolder rfl rfl) (fun z => RV.of 5 ((fun z => by rw [(hS _ z).1 0 (by decide)]; rfl) z) rfl rfl qs123) q2229 q2231 rfl dX5_weddings_109 ?_
      refine r_istore (L' := [(0, vr (some 0)), (2, vi x2), (3, vi x3), (4, vi x4), (5, vi r11)]) B dX5_weddings_112 (by decide) rfl rfl rfl ?_
      refine r_iload (j := 4) B dX5_weddings_114 rfl ?_
      refine r_iconst (v := -1) B dX5_weddings_116 (by decide) ?_
      refine r_ic_eq (tgt := 143) B dX5_weddings_117 (by decide) (fun cn14 => ?_) (fun cn14 => ?_)
      · have h := ot cn14 h
        refine r_iconst (v := 0) B dX5_weddings_143 (by decide) ?_
        refine r_istore (L' := [(0, vr (some 0)), (2, vi x2), (3, vi x3), (4, vi x4), (5, vi r11), (6, vi (0 : Int32))]) B dX5_weddings_144 (by decide) rfl rfl rfl ?_
        exact w_X5_weddings_146 B hS (F_X5_weddings_94  n) ih FU s12 x2 x3 x4 r11 (0 : Int32) h
      · have h := of cn14 h
        refine r_aload_n (j := 0) B dX5_weddings_120 rfl rfl ?_
        refine g5 (k := 64) B (vr (some 28)) rfl (fun z => by rw [(hS _ z).1 0 (by decide)]; rfl) rfl q1581 rfl (fun z => by rw [(hS _ z).2 _ (List.mem_of_getElem? (i := 27) rfl)]; rfl) dX5_weddings_121 ?_
        refine r_iconst (v := 2) B dX5_weddings_124 (by decide) ?_
        refine r_iload (j := 4) B dX5_weddings_125 rfl ?_
        refine r_imul B dX5_weddings_127 ?_
        refine r_dup2 B dX5_weddings_128 rfl rfl ?_
        obtain ⟨hg15, h⟩ := gd_e h
        refine r_iald B rfl (fun z => (hS _ z).1 28 (by decide)) hg15 dX5_weddings_129 ?_
        refine r_iconst (v := 1) B dX5_weddings_130 (by decide) ?_
        refine r_iadd B dX5_weddings_131 ?_
        obtain ⟨hg16, h⟩ := gd_e h
        obtain ⟨s17, e18, h⟩ := nam_e h
        refine r_iast B e18 rfl (fun z => (hS _ z).1 28 (by decide)) hg16 dX5_weddings_132 ?_
        refine r_iload_n (j := 2) B dX5_weddings_133 rfl rfl ?_
        refine r_aload_n (j := 0) B dX5_weddings_134 rfl rfl ?_
        refine r_iload (j := 4) B dX5_weddings_135 rfl ?_
        refine r_iconst (v := 1) B dX5_weddings_137 (by decide) ?_
        obtain ⟨r19, s20, hc21, h⟩ := bnd_e h
        refine r_callVv (As := [vi r11, vi (1 : Int32)]) (rest := [vi x3]) B rfl rfl EX.same (c_X5_wedNow B.ge hS hc21) (cw_X5_wedNow rfl rfl) (fun z => RV.of 5 ((fun z => by rw [(hS _ z).1 0 (by decide)]; rfl) z) rfl rfl qs124) q2233 q2235 rfl dX5_weddings_138 ?_
        refine r_iadd B dX5_weddings_141 ?_
        refine r_istore_n (L' := [(0, vr (some 0)), (2, vi x2), (3, vi (x3 + r19)), (4, vi x4), (5, vi r11)]) B dX5_weddings_142 rfl (by decide) rfl rfl rfl ?_
        refine r_iconst (v := 0) B dX5_weddings_143 (by decide) ?_
        refine r_istore (L' := [(0, vr (some 0)), (2, vi x2), (3, vi (x3 + r19)), (4, vi x4), (5, vi r11), (6, vi (0 : Int32))]) B dX5_weddings_144 (by decide) rfl rfl rfl ?_
        exact w_X5_weddings_146 B hS (F_X5_weddings_94  n) ih FU s20 x2 (x3 + r19) x4 r11 (0 : Int32) h
set_option maxHeartbeats 4000000 in
noncomputable def F_X5_weddings_66 : Nat → St → Int32 → Int32 → Option (Int32 × St)
  | 0 => fun _ _ _ => none
  | n + 1 => fun s x2 x3 => if (12 : Int32) ≤ x3 then (bnd (F_X5_aimNow s) fun _ s3 => F_X5_weddings_94 FU s3 x2 (0 : Int32) (0 : Int32)) else (gd (inb x3 12) <| nam (setI s 28 x3.toNatClampNeg (0 : Int32)) fun s6 => F_X5_weddings_66  n s6 x2 (x3 + (1)))
set_option maxHeartbeats 4000000 in
theorem w_X5_weddings_66 {X : CX} {E : EV} {a0 s' : St} {r : Int32} (B : FX X E cX5_weddings 7 (some .int) "RoseThrowModel" "weddings" (sn a0) (ss a0) 8 191) (hS : ∀ σ, eSk E σ → SkM σ) : ∀ (n : Nat) (s : St) (x2 : Int32) (x3 : Int32), F_X5_weddings_66   n s x2 x3 = some (r, s') → J X E (sn a0) (ss a0) 7 (QR X E a0 (some (vi r)) s') s 66 [(0, vr (some 0)), (2, vi x2), (3, vi x3)] [] := by
  intro n
  induction n with
  | zero => intro s x2 x3 h; exact absurd (show (none : Option (Int32 × St)) = _ from h) (by simp)
  | succ n ih =>
    intro s x2 x3 h
    rw [F_X5_weddings_66] at h
    refine r_iload_n (j := 2) B dX5_weddings_66 rfl rfl ?_
    refine r_bipush (v := 12) B dX5_weddings_67 (by decide) ?_
    refine r_ic_ge (tgt := 85) B dX5_weddings_69 (by decide) (fun cn1 => ?_) (fun cn1 => ?_)
    · have h := ot cn1 h
      refine r_iconst (v := 0) B dX5_weddings_85 (by decide) ?_
      refine r_istore_n (L' := [(0, vr (some 0)), (2, vi x2), (3, vi (0 : Int32))]) B dX5_weddings_86 rfl (by decide) rfl rfl rfl ?_
      refine r_aload_n (j := 0) B dX5_weddings_87 rfl rfl ?_
      obtain ⟨r2, s3, hc4, h⟩ := bnd_e h
      refine r_callV0 (As := []) (rest := []) B rfl rfl EX.same (c_X5_aimNow B.ge hS hc4) (cw_X5_aimNow rfl rfl) (fun z => RV.of 5 ((fun z => by rw [(hS _ z).1 0 (by decide)]; rfl) z) rfl rfl qs91) q2004 q2006 rfl dX5_weddings_88 ?_
      refine r_iconst (v := 0) B dX5_weddings_91 (by decide) ?_
      refine r_istore (L' := [(0, vr (some 0)), (2, vi x2), (3, vi (0 : Int32)), (4, vi (0 : Int32))]) B dX5_weddings_92 (by decide) rfl rfl rfl ?_
      exact w_X5_weddings_94 B hS FU s3 x2 (0 : Int32) (0 : Int32) h
    · have h := of cn1 h
      refine r_aload_n (j := 0) B dX5_weddings_72 rfl rfl ?_
      refine g5 (k := 64) B (vr (some 28)) rfl (fun z => by rw [(hS _ z).1 0 (by decide)]; rfl) rfl q1581 rfl (fun z => by rw [(hS _ z).2 _ (List.mem_of_getElem? (i := 27) rfl)]; rfl) dX5_weddings_73 ?_
      refine r_iload_n (j := 2) B dX5_weddings_76 rfl rfl ?_
      refine r_iconst (v := 0) B dX5_weddings_77 (by decide) ?_
      obtain ⟨hg5, h⟩ := gd_e h
      obtain ⟨s6, e7, h⟩ := nam_e h
      refine r_iast B e7 rfl (fun z => (hS _ z).1 28 (by decide)) hg5 dX5_weddings_78 ?_
      refine r_iinc (j := 2) (v := (x3 + (1))) (L' := [(0, vr (some 0)), (2, vi x2), (3, vi (x3 + (1)))]) B dX5_weddings_79 rfl rfl (by decide) rfl rfl rfl ?_
      refine r_goto (tgt := 66) B dX5_weddings_82 (by decide) ?_
      exact ih s6 x2 (x3 + (1)) h
set_option maxHeartbeats 4000000 in
noncomputable def F_X5_weddings (s : St) (p0 : Int32) (p1 : Int32) : Option (Int32 × St) := nam (setI s 0 0 (0 : Int32)) fun s1 => bnd (F_X5_in s1 ((p0).toInt64) (0 : Int64) (1000000 : Int64)) fun r3 s4 => if r3 = 0 then (F_X5_weddings_29 s4) else (bnd (F_X5_in s4 ((p1).toInt64) (1 : Int64) (100 : Int64)) fun r7 s8 => if r7 = 0 then (F_X5_weddings_29 s8) else (nam (setL s8 0 63 ((p0).toInt64)) fun s11 => nam (setI s11 0 66 (1 : Int32)) fun s13 => gd (inb (0 : Int32) 5460) <| nam (setI s13 0 65 (si s13 2 (0 : Int32).toNatClampNeg)) fun s16 => nam (setI s16 0 50 (si s16 0 65)) fun s18 => F_X5_weddings_66 FU s18 p1 (0 : Int32)))
set_option maxHeartbeats 4000000 in
theorem c_X5_weddings {l : Launch} {E : EV} (hE : GE E) (hS : ∀ σ, eSk E σ → SkM σ) {s s' : St} {r : Int32} {p0 : Int32} {p1 : Int32} (h : F_X5_weddings  s p0 p1 = some (r, s')) : CT l E yX5_weddings cX5_weddings 7 (some .int) 8 191 [vr (some 0), vi p0, vi p1] s (some (vi r)) s' := by
  refine CT.start hE (by decide) rfl [(0, vr (some 0)), (1, vi p0), (2, vi p1)] rfl (fun X hX B => ?_)
  skip
  have B : FX X E cX5_weddings 7 (some .int) "RoseThrowModel" "weddings" (sn s) (ss s) 8 191 := B
  unfold F_X5_weddings at h
  refine r_aload_n (j := 0) B dX5_weddings_0 rfl rfl ?_
  refine r_iconst (v := 0) B dX5_weddings_1 (by decide) ?_
  obtain ⟨s1, e2, h⟩ := nam_e h
  refine pI5 (k := 0) B e2 rfl (fun z => by rw [(hS _ z).1 0 (by decide)]; rfl) rfl q1517 rfl rfl (fun _ _ _ => rfl) rfl dX5_weddings_2 ?_
  refine r_iload_n (j := 1) B dX5_weddings_5 rfl rfl ?_
  refine r_i2l B dX5_weddings_6 ?_
  refine r_lconst (v := 0) B dX5_weddings_7 (by decide) ?_
  refine r_ldc2 B dX5_weddings_8 q1884 ?_
  obtain ⟨r3, s4, hc5, h⟩ := bnd_e h
  refine r_callSv (As := [vl ((p0).toInt64), vl (0 : Int64), vl (1000000 : Int64)]) (rest := []) B rfl EX.same (c_X5_in B.ge hS hc5) (cw_X5_in rfl rfl) q1740 q1741 rfl dX5_weddings_11 ?_
  refine r_if_eq (tgt := 29) B dX5_weddings_14 (by decide) (fun cn6 => ?_) (fun cn6 => ?_)
  · have h := ot cn6 h
    refine r_pick [0] (L' := [(0, vr (some 0))]) rfl ?_
    exact w_X5_weddings_29 B hS s4 h
  · have h := of cn6 h
    refine r_iload_n (j := 2) B dX5_weddings_17 rfl rfl ?_
    refine r_i2l B dX5_weddings_18 ?_
    refine r_lconst (v := 1) B dX5_weddings_19 (by decide) ?_
    refine r_ldc2 B dX5_weddings_20 q2217 ?_
    obtain ⟨r7, s8, hc9, h⟩ := bnd_e h
    refine r_callSv (As := [vl ((p1).toInt64), vl (1 : Int64), vl (100 : Int64)]) (rest := []) B rfl EX.same (c_X5_in B.ge hS hc9) (cw_X5_in rfl rfl) q1740 q1741 rfl dX5_weddings_23 ?_
    refine r_if_ne (tgt := 35) B dX5_weddings_26 (by decide) (fun cn10 => ?_) (fun cn10 => ?_)
    · have h := of cn10 h
      refine r_aload_n (j := 0) B dX5_weddings_35 rfl rfl ?_
      refine r_iload_n (j := 1) B dX5_weddings_36 rfl rfl ?_
      refine r_i2l B dX5_weddings_37 ?_
      obtain ⟨s11, e12, h⟩ := nam_e h
      refine pL5 (k := 63) B e12 rfl (fun z => by rw [(hS _ z).1 0 (by decide)]; rfl) rfl q1580 rfl rfl rfl dX5_weddings_38 ?_
      refine r_aload_n (j := 0) B dX5_weddings_41 rfl rfl ?_
      refine r_iconst (v := 1) B dX5_weddings_42 (by decide) ?_
      obtain ⟨s13, e14, h⟩ := nam_e h
      refine pI5 (k := 66) B e14 rfl (fun z => by rw [(hS _ z).1 0 (by decide)]; rfl) rfl q1583 rfl rfl (fun _ _ _ => rfl) (by decide) dX5_weddings_43 ?_
      refine r_aload_n (j := 0) B dX5_weddings_46 rfl rfl ?_
      refine r_aload_n (j := 0) B dX5_weddings_47 rfl rfl ?_
      refine g5 (k := 3) B (vr (some 2)) rfl (fun z => by rw [(hS _ z).1 0 (by decide)]; rfl) rfl q1520 rfl (fun z => by rw [(hS _ z).2 _ (List.mem_of_getElem? (i := 1) rfl)]; rfl) dX5_weddings_48 ?_
      refine r_iconst (v := 0) B dX5_weddings_51 (by decide) ?_
      obtain ⟨hg15, h⟩ := gd_e h
      refine r_iald B rfl (fun z => (hS _ z).1 2 (by decide)) hg15 dX5_weddings_52 ?_
      obtain ⟨s16, e17, h⟩ := nam_e h
      refine pI5 (k := 65) B e17 rfl (fun z => by rw [(hS _ z).1 0 (by decide)]; rfl) rfl q1582 rfl rfl (fun _ _ _ => rfl) rfl dX5_weddings_53 ?_
      refine r_aload_n (j := 0) B dX5_weddings_56 rfl rfl ?_
      refine r_aload_n (j := 0) B dX5_weddings_57 rfl rfl ?_
      refine g5 (k := 65) B (vi (si s16 0 65)) rfl (fun z => by rw [(hS _ z).1 0 (by decide)]; rfl) rfl q1582 rfl (fun _ => rfl) dX5_weddings_58 ?_
      obtain ⟨s18, e19, h⟩ := nam_e h
      refine pI5 (k := 50) B e19 rfl (fun z => by rw [(hS _ z).1 0 (by decide)]; rfl) rfl q1567 rfl rfl (fun _ _ _ => rfl) rfl dX5_weddings_61 ?_
      refine r_iconst (v := 0) B dX5_weddings_64 (by decide) ?_
      refine r_istore_n (L' := [(0, vr (some 0)), (1, vi p0), (2, vi p1), (3, vi (0 : Int32))]) B dX5_weddings_65 rfl (by decide) rfl rfl rfl ?_
      refine r_pick [0, 2, 3] (L' := [(0, vr (some 0)), (2, vi p1), (3, vi (0 : Int32))]) rfl ?_
      exact w_X5_weddings_66 B hS FU s18 p1 (0 : Int32) h
    · have h := ot cn10 h
      refine r_pick [0] (L' := [(0, vr (some 0))]) rfl ?_
      exact w_X5_weddings_29 B hS s8 h
set_option maxHeartbeats 4000000 in
theorem cw_X5_weddings {X : CX} {fr lo : Nat} (h1 : Nat.ble (8 + 1) fr = true) (h2 : Nat.ble (26 + 191) lo = true) : CW X fr lo yX5_weddings cX5_weddings 7 (some .int) 8 191 2 := ⟨q2216, q136, ⟨by decide +kernel, by decide +kernel, by decide +kernel⟩, Nat.le_of_ble_eq_true h1, Nat.le_of_ble_eq_true h2⟩

set_option maxHeartbeats 4000000 in
noncomputable def F_X5_drawn (s : St) (p0 : Int32) (p1 : Int32) : Option (Int32 × St) := nam (setI s 0 0 (0 : Int32)) fun s1 => if (si s1 0 66) = 0 then (some ((-1 : Int32), s1)) else (bnd (F_X5_in s1 ((p0).toInt64) (0 : Int64) ((((si s1 0 65)).toInt64) - (1 : Int64))) fun r4 s5 => if r4 = 0 then (some ((-1 : Int32), s5)) else (bnd (F_X5_in s5 ((p1).toInt64) (0 : Int64) (1 : Int64)) fun r8 s9 => if r8 = 0 then (some ((-1 : Int32), s9)) else (gd (inb (((2 : Int32) * p0) + p1) 12) <| some ((si s9 28 (((2 : Int32) * p0) + p1).toNatClampNeg), s9))))
set_option maxHeartbeats 4000000 in
theorem c_X5_drawn {l : Launch} {E : EV} (hE : GE E) (hS : ∀ σ, eSk E σ → SkM σ) {s s' : St} {r : Int32} {p0 : Int32} {p1 : Int32} (h : F_X5_drawn  s p0 p1 = some (r, s')) : CT l E yX5_drawn cX5_drawn 3 (some .int) 1 25 [vr (some 0), vi p0, vi p1] s (some (vi r)) s' := by
  refine CT.start hE (by decide) rfl [(0, vr (some 0)), (1, vi p0), (2, vi p1)] rfl (fun X hX B => ?_)
  skip
  have B : FX X E cX5_drawn 3 (some .int) "RoseThrowModel" "drawn" (sn s) (ss s) 1 25 := B
  unfold F_X5_drawn at h
  refine r_aload_n (j := 0) B dX5_drawn_0 rfl rfl ?_
  refine r_iconst (v := 0) B dX5_drawn_1 (by decide) ?_
  obtain ⟨s1, e2, h⟩ := nam_e h
  refine pI5 (k := 0) B e2 rfl (fun z => by rw [(hS _ z).1 0 (by decide)]; rfl) rfl q1517 rfl rfl (fun _ _ _ => rfl) rfl dX5_drawn_2 ?_
  refine r_aload_n (j := 0) B dX5_drawn_5 rfl rfl ?_
  refine g5 (k := 66) B (vi (si s1 0 66)) rfl (fun z => by rw [(hS _ z).1 0 (by decide)]; rfl) rfl q1583 rfl (fun _ => rfl) dX5_drawn_6 ?_
  refine r_if_eq (tgt := 51) B dX5_drawn_9 (by decide) (fun cn3 => ?_) (fun cn3 => ?_)
  · have h := ot cn3 h
    refine r_iconst (v := -1) B dX5_drawn_51 (by decide) ?_
    exact r_iret B dX5_drawn_52 h
  · have h := of cn3 h
    refine r_iload_n (j := 1) B dX5_drawn_12 rfl rfl ?_
    refine r_i2l B dX5_drawn_13 ?_
    refine r_lconst (v := 0) B dX5_drawn_14 (by decide) ?_
    refine r_aload_n (j := 0) B dX5_drawn_15 rfl rfl ?_
    refine g5 (k := 65) B (vi (si s1 0 65)) rfl (fun z => by rw [(hS _ z).1 0 (by decide)]; rfl) rfl q1582 rfl (fun _ => rfl) dX5_drawn_16 ?_
    refine r_i2l B dX5_drawn_19 ?_
    refine r_lconst (v := 1) B dX5_drawn_20 (by decide) ?_
    refine r_lsub B dX5_drawn_21 ?_
    obtain ⟨r4, s5, hc6, h⟩ := bnd_e h
    refine r_callSv (As := [vl ((p0).toInt64), vl (0 : Int64), vl ((((si s1 0 65)).toInt64) - (1 : Int64))]) (rest := []) B rfl EX.same (c_X5_in B.ge hS hc6) (cw_X5_in rfl rfl) q1740 q1741 rfl dX5_drawn_22 ?_
    refine r_if_eq (tgt := 51) B dX5_drawn_25 (by decide) (fun cn7 => ?_) (fun cn7 => ?_)
    · have h := ot cn7 h
      refine r_iconst (v := -1) B dX5_drawn_51 (by decide) ?_
      exact r_iret B dX5_drawn_52 h
    · have h := of cn7 h
      refine r_iload_n (j := 2) B dX5_drawn_28 rfl rfl ?_
      refine r_i2l B dX5_drawn_29 ?_
      refine r_lconst (v := 0) B dX5_drawn_30 (by decide) ?_
      refine r_lconst (v := 1) B dX5_drawn_31 (by decide) ?_
      obtain ⟨r8, s9, hc10, h⟩ := bnd_e h
      refine r_callSv (As := [vl ((p1).toInt64), vl (0 : Int64), vl (1 : Int64)]) (rest := []) B rfl EX.same (c_X5_in B.ge hS hc10) (cw_X5_in rfl rfl) q1740 q1741 rfl dX5_drawn_32 ?_
      refine r_if_eq (tgt := 51) B dX5_drawn_35 (by decide) (fun cn11 => ?_) (fun cn11 => ?_)
      · have h := ot cn11 h
        refine r_iconst (v := -1) B dX5_drawn_51 (by decide) ?_
        exact r_iret B dX5_drawn_52 h
      · have h := of cn11 h
        refine r_aload_n (j := 0) B dX5_drawn_38 rfl rfl ?_
        refine g5 (k := 64) B (vr (some 28)) rfl (fun z => by rw [(hS _ z).1 0 (by decide)]; rfl) rfl q1581 rfl (fun z => by rw [(hS _ z).2 _ (List.mem_of_getElem? (i := 27) rfl)]; rfl) dX5_drawn_39 ?_
        refine r_iconst (v := 2) B dX5_drawn_42 (by decide) ?_
        refine r_iload_n (j := 1) B dX5_drawn_43 rfl rfl ?_
        refine r_imul B dX5_drawn_44 ?_
        refine r_iload_n (j := 2) B dX5_drawn_45 rfl rfl ?_
        refine r_iadd B dX5_drawn_46 ?_
        obtain ⟨hg12, h⟩ := gd_e h
        refine r_iald B rfl (fun z => (hS _ z).1 28 (by decide)) hg12 dX5_drawn_47 ?_
        refine r_goto (tgt := 52) B dX5_drawn_48 (by decide) ?_
        exact r_iret B dX5_drawn_52 h
set_option maxHeartbeats 4000000 in
theorem cw_X5_drawn {X : CX} {fr lo : Nat} (h1 : Nat.ble (1 + 1) fr = true) (h2 : Nat.ble (22 + 25) lo = true) : CW X fr lo yX5_drawn cX5_drawn 3 (some .int) 1 25 2 := ⟨q2240, q136, ⟨by decide +kernel, by decide +kernel, by decide +kernel⟩, Nat.le_of_ble_eq_true h1, Nat.le_of_ble_eq_true h2⟩

set_option maxHeartbeats 4000000 in
noncomputable def F_X5_count (s : St) (p0 : Int32) : Option (Int32 × St) := nam (setI s 0 0 (0 : Int32)) fun s1 => (if p0 = (0 : Int32) then (gd (inb (0 : Int32) 5460) <| some ((si s1 2 (0 : Int32).toNatClampNeg), s1)) else (if p0 = (1 : Int32) then (gd (inb (1 : Int32) 5460) <| some ((si s1 2 (1 : Int32).toNatClampNeg), s1)) else (if p0 = (2 : Int32) then (gd (inb (2 : Int32) 5460) <| some ((si s1 2 (2 : Int32).toNatClampNeg), s1)) else (if p0 = (3 : Int32) then (some ((si s1 0 8), s1)) else (if p0 = (4 : Int32) then (some ((si s1 0 14), s1)) else (if p0 = (5 : Int32) then (gd (inb (1 : Int32) 7) <| some ((si s1 1 (1 : Int32).toNatClampNeg), s1)) else (if p0 = (6 : Int32) then (gd (inb (2 : Int32) 7) <| some ((si s1 1 (2 : Int32).toNatClampNeg), s1)) else (if p0 = (7 : Int32) then (gd (inb (3 : Int32) 7) <| some ((si s1 1 (3 : Int32).toNatClampNeg), s1)) else (if p0 = (8 : Int32) then (gd (inb (5 : Int32) 7) <| some ((si s1 1 (5 : Int32).toNatClampNeg), s1)) else (if p0 = (9 : Int32) then (gd (inb (6 : Int32) 7) <| some ((si s1 1 (6 : Int32).toNatClampNeg), s1)) else (if p0 = (10 : Int32) then (gd (inb (3 : Int32) 5460) <| some ((si s1 2 (3 : Int32).toNatClampNeg), s1)) else (bnd (F_X5_in s1 ((p0).toInt64) (11 : Int64) (19 : Int64)) fun r12 s13 => if r12 = 0 then (some ((-1000 : Int32), s13)) else (gd (inb (((4 : Int32) + p0) - (11 : Int32)) 5460) <| some ((si s13 2 (((4 : Int32) + p0) - (11 : Int32)).toNatClampNeg), s13))))))))))))))
set_option maxHeartbeats 4000000 in
theorem c_X5_count {l : Launch} {E : EV} (hE : GE E) (hS : ∀ σ, eSk E σ → SkM σ) {s s' : St} {r : Int32} {p0 : Int32} (h : F_X5_count  s p0 = some (r, s')) : CT l E yX5_count cX5_count 2 (some .int) 1 25 [vr (some 0), vi p0] s (some (vi r)) s' := by
  refine CT.start hE (by decide) rfl [(0, vr (some 0)), (1, vi p0)] rfl (fun X hX B => ?_)
  skip
  have B : FX X E cX5_count 2 (some .int) "RoseThrowModel" "count" (sn s) (ss s) 1 25 := B
  unfold F_X5_count at h
  refine r_aload_n (j := 0) B dX5_count_0 rfl rfl ?_
  refine r_iconst (v := 0) B dX5_count_1 (by decide) ?_
  obtain ⟨s1, e2, h⟩ := nam_e h
  refine pI5 (k := 0) B e2 rfl (fun z => by rw [(hS _ z).1 0 (by decide)]; rfl) rfl q1517 rfl rfl (fun _ _ _ => rfl) rfl dX5_count_2 ?_
  refine r_iload_n (j := 1) B dX5_count_5 rfl rfl ?_
  by_cases c6_0 : p0 = (0 : Int32)
  · have h := ot c6_0 h
    refine r_tin (tgt := 64) B dX5_count_6 c6_0 (by decide) (by decide) (off := 58) (by decide) (by decide) ?_
    refine r_aload_n (j := 0) B dX5_count_64 rfl rfl ?_
    refine g5 (k := 3) B (vr (some 2)) rfl (fun z => by rw [(hS _ z).1 0 (by decide)]; rfl) rfl q1520 rfl (fun z => by rw [(hS _ z).2 _ (List.mem_of_getElem? (i := 1) rfl)]; rfl) dX5_count_65 ?_
    refine r_iconst (v := 0) B dX5_count_68 (by decide) ?_
    obtain ⟨hg3, h⟩ := gd_e h
    refine r_iald B rfl (fun z => (hS _ z).1 2 (by decide)) hg3 dX5_count_69 ?_
    exact r_iret B dX5_count_70 h
  · have h := of c6_0 h
    by_cases c6_1 : p0 = (1 : Int32)
    · have h := ot c6_1 h
      refine r_tin (tgt := 71) B dX5_count_6 c6_1 (by decide) (by decide) (off := 65) (by decide) (by decide) ?_
      refine r_aload_n (j := 0) B dX5_count_71 rfl rfl ?_
      refine g5 (k := 3) B (vr (some 2)) rfl (fun z => by rw [(hS _ z).1 0 (by decide)]; rfl) rfl q1520 rfl (fun z => by rw [(hS _ z).2 _ (List.mem_of_getElem? (i := 1) rfl)]; rfl) dX5_count_72 ?_
      refine r_iconst (v := 1) B dX5_count_75 (by decide) ?_
      obtain ⟨hg4, h⟩ := gd_e h
      refine r_iald B rfl (fun z => (hS _ z).1 2 (by decide)) hg4 dX5_count_76 ?_
      exact r_iret B dX5_count_77 h
    · have h := of c6_1 h
      by_cases c6_2 : p0 = (2 : Int32)
      · have h := ot c6_2 h
        refine r_tin (tgt := 78) B dX5_count_6 c6_2 (by decide) (by decide) (off := 72) (by decide) (by decide) ?_
        refine r_aload_n (j := 0) B dX5_count_78 rfl rfl ?_
        refine g5 (k := 3) B (vr (some 2)) rfl (fun z => by rw [(hS _ z).1 0 (by decide)]; rfl) rfl q1520 rfl (fun z => by rw [(hS _ z).2 _ (List.mem_of_getElem? (i := 1) rfl)]; rfl) dX5_count_79 ?_
        refine r_iconst (v := 2) B dX5_count_82 (by decide) ?_
        obtain ⟨hg5, h⟩ := gd_e h
        refine r_iald B rfl (fun z => (hS _ z).1 2 (by decide)) hg5 dX5_count_83 ?_
        exact r_iret B dX5_count_84 h
      · have h := of c6_2 h
        by_cases c6_3 : p0 = (3 : Int32)
        · have h := ot c6_3 h
          refine r_tin (tgt := 85) B dX5_count_6 c6_3 (by decide) (by decide) (off := 79) (by decide) (by decide) ?_
          refine r_aload_n (j := 0) B dX5_count_85 rfl rfl ?_
          refine g5 (k := 8) B (vi (si s1 0 8)) rfl (fun z => by rw [(hS _ z).1 0 (by decide)]; rfl) rfl q1525 rfl (fun _ => rfl) dX5_count_86 ?_
          exact r_iret B dX5_count_89 h
        · have h := of c6_3 h
          by_cases c6_4 : p0 = (4 : Int32)
          · have h := ot c6_4 h
            refine r_tin (tgt := 90) B dX5_count_6 c6_4 (by decide) (by decide) (off := 84) (by decide) (by decide) ?_
            refine r_aload_n (j := 0) B dX5_count_90 rfl rfl ?_
            refine g5 (k := 14) B (vi (si s1 0 14)) rfl (fun z => by rw [(hS _ z).1 0 (by decide)]; rfl) rfl q1531 rfl (fun _ => rfl) dX5_count_91 ?_
            exact r_iret B dX5_count_94 h
          · have h := of c6_4 h
            by_cases c6_5 : p0 = (5 : Int32)
            · have h := ot c6_5 h
              refine r_tin (tgt := 95) B dX5_count_6 c6_5 (by decide) (by decide) (off := 89) (by decide) (by decide) ?_
              refine r_aload_n (j := 0) B dX5_count_95 rfl rfl ?_
              refine g5 (k := 2) B (vr (some 1)) rfl (fun z => by rw [(hS _ z).1 0 (by decide)]; rfl) rfl q1519 rfl (fun z => by rw [(hS _ z).2 _ (List.mem_of_getElem? (i := 0) rfl)]; rfl) dX5_count_96 ?_
              refine r_iconst (v := 1) B dX5_count_99 (by decide) ?_
              obtain ⟨hg6, h⟩ := gd_e h
              refine r_iald B rfl (fun z => (hS _ z).1 1 (by decide)) hg6 dX5_count_100 ?_
              exact r_iret B dX5_count_101 h
            · have h := of c6_5 h
              by_cases c6_6 : p0 = (6 : Int32)
              · have h := ot c6_6 h
                refine r_tin (tgt := 102) B dX5_count_6 c6_6 (by decide) (by decide) (off := 96) (by decide) (by decide) ?_
                refine r_aload_n (j := 0) B dX5_count_102 rfl rfl ?_
                refine g5 (k := 2) B (vr (some 1)) rfl (fun z => by rw [(hS _ z).1 0 (by decide)]; rfl) rfl q1519 rfl (fun z => by rw [(hS _ z).2 _ (List.mem_of_getElem? (i := 0) rfl)]; rfl) dX5_count_103 ?_
                refine r_iconst (v := 2) B dX5_count_106 (by decide) ?_
                obtain ⟨hg7, h⟩ := gd_e h
                refine r_iald B rfl (fun z => (hS _ z).1 1 (by decide)) hg7 dX5_count_107 ?_
                exact r_iret B dX5_count_108 h
              · have h := of c6_6 h
                by_cases c6_7 : p0 = (7 : Int32)
                · have h := ot c6_7 h
                  refine r_tin (tgt := 109) B dX5_count_6 c6_7 (by decide) (by decide) (off := 103) (by decide) (by decide) ?_
                  refine r_aload_n (j := 0) B dX5_count_109 rfl rfl ?_
                  refine g5 (k := 2) B (vr (some 1)) rfl (fun z => by rw [(hS _ z).1 0 (by decide)]; rfl) rfl q1519 rfl (fun z => by rw [(hS _ z).2 _ (List.mem_of_getElem? (i := 0) rfl)]; rfl) dX5_count_110 ?_
                  refine r_iconst (v := 3) B dX5_count_113 (by decide) ?_
                  obtain ⟨hg8, h⟩ := gd_e h
                  refine r_iald B rfl (fun z => (hS _ z).1 1 (by decide)) hg8 dX5_count_114 ?_
                  exact r_iret B dX5_count_115 h
                · have h := of c6_7 h
                  by_cases c6_8 : p0 = (8 : Int32)
                  · have h := ot c6_8 h
                    refine r_tin (tgt := 116) B dX5_count_6 c6_8 (by decide) (by decide) (off := 110) (by decide) (by decide) ?_
                    refine r_aload_n (j := 0) B dX5_count_116 rfl rfl ?_
                    refine g5 (k := 2) B (vr (some 1)) rfl (fun z => by rw [(hS _ z).1 0 (by decide)]; rfl) rfl q1519 rfl (fun z => by rw [(hS _ z).2 _ (List.mem_of_getElem? (i := 0) rfl)]; rfl) dX5_count_117 ?_
                    refine r_iconst (v := 5) B dX5_count_120 (by decide) ?_
                    obtain ⟨hg9, h⟩ := gd_e h
                    refine r_iald B rfl (fun z => (hS _ z).1 1 (by decide)) hg9 dX5_count_121 ?_
                    exact r_iret B dX5_count_122 h
                  · have h := of c6_8 h
                    by_cases c6_9 : p0 = (9 : Int32)
                    · have h := ot c6_9 h
                      refine r_tin (tgt := 123) B dX5_count_6 c6_9 (by decide) (by decide) (off := 117) (by decide) (by decide) ?_
                      refine r_aload_n (j := 0) B dX5_count_123 rfl rfl ?_
                      refine g5 (k := 2) B (vr (some 1)) rfl (fun z => by rw [(hS _ z).1 0 (by decide)]; rfl) rfl q1519 rfl (fun z => by rw [(hS _ z).2 _ (List.mem_of_getElem? (i := 0) rfl)]; rfl) dX5_count_124 ?_
                      refine r_bipush (v := 6) B dX5_count_127 (by decide) ?_
                      obtain ⟨hg10, h⟩ := gd_e h
                      refine r_iald B rfl (fun z => (hS _ z).1 1 (by decide)) hg10 dX5_count_129 ?_
                      exact r_iret B dX5_count_130 h
                    · have h := of c6_9 h
                      by_cases c6_10 : p0 = (10 : Int32)
                      · have h := ot c6_10 h
                        refine r_tin (tgt := 131) B dX5_count_6 c6_10 (by decide) (by decide) (off := 125) (by decide) (by decide) ?_
                        refine r_aload_n (j := 0) B dX5_count_131 rfl rfl ?_
                        refine g5 (k := 3) B (vr (some 2)) rfl (fun z => by rw [(hS _ z).1 0 (by decide)]; rfl) rfl q1520 rfl (fun z => by rw [(hS _ z).2 _ (List.mem_of_getElem? (i := 1) rfl)]; rfl) dX5_count_132 ?_
                        refine r_iconst (v := 3) B dX5_count_135 (by decide) ?_
                        obtain ⟨hg11, h⟩ := gd_e h
                        refine r_iald B rfl (fun z => (hS _ z).1 2 (by decide)) hg11 dX5_count_136 ?_
                        exact r_iret B dX5_count_137 h
                      · have h := of c6_10 h
                        refine r_tout (tgt := 138) B dX5_count_6 (by have t0 := lv_neT (a := 0) c6_0 (by decide); have t1 := lv_neT (a := 1) c6_1 (by decide); have t2 := lv_neT (a := 2) c6_2 (by decide); have t3 := lv_neT (a := 3) c6_3 (by decide); have t4 := lv_neT (a := 4) c6_4 (by decide); have t5 := lv_neT (a := 5) c6_5 (by decide); have t6 := lv_neT (a := 6) c6_6 (by decide); have t7 := lv_neT (a := 7) c6_7 (by decide); have t8 := lv_neT (a := 8) c6_8 (by decide); have t9 := lv_neT (a := 9) c6_9 (by decide); have t10 := lv_neT (a := 10) c6_10 (by decide); omega) (by decide) ?_
                        refine r_iload_n (j := 1) B dX5_count_138 rfl rfl ?_
                        refine r_i2l B dX5_count_139 ?_
                        refine r_ldc2 B dX5_count_140 q2245 ?_
                        refine r_ldc2 B dX5_count_143 q2246 ?_
                        obtain ⟨r12, s13, hc14, h⟩ := bnd_e h
                        refine r_callSv (As := [vl ((p0).toInt64), vl (11 : Int64), vl (19 : Int64)]) (rest := []) B rfl EX.same (c_X5_in B.ge hS hc14) (cw_X5_in rfl rfl) q1740 q1741 rfl dX5_count_146 ?_
                        refine r_if_eq (tgt := 166) B dX5_count_149 (by decide) (fun cn15 => ?_) (fun cn15 => ?_)
                        · have h := ot cn15 h
                          refine r_sipush (v := -1000) B dX5_count_166 (by decide) ?_
                          exact r_iret B dX5_count_169 h
                        · have h := of cn15 h
                          refine r_aload_n (j := 0) B dX5_count_152 rfl rfl ?_
                          refine g5 (k := 3) B (vr (some 2)) rfl (fun z => by rw [(hS _ z).1 0 (by decide)]; rfl) rfl q1520 rfl (fun z => by rw [(hS _ z).2 _ (List.mem_of_getElem? (i := 1) rfl)]; rfl) dX5_count_153 ?_
                          refine r_iconst (v := 4) B dX5_count_156 (by decide) ?_
                          refine r_iload_n (j := 1) B dX5_count_157 rfl rfl ?_
                          refine r_iadd B dX5_count_158 ?_
                          refine r_bipush (v := 11) B dX5_count_159 (by decide) ?_
                          refine r_isub B dX5_count_161 ?_
                          obtain ⟨hg16, h⟩ := gd_e h
                          refine r_iald B rfl (fun z => (hS _ z).1 2 (by decide)) hg16 dX5_count_162 ?_
                          refine r_goto (tgt := 169) B dX5_count_163 (by decide) ?_
                          exact r_iret B dX5_count_169 h
set_option maxHeartbeats 4000000 in
theorem cw_X5_count {X : CX} {fr lo : Nat} (h1 : Nat.ble (1 + 1) fr = true) (h2 : Nat.ble (21 + 25) lo = true) : CW X fr lo yX5_count cX5_count 2 (some .int) 1 25 1 := ⟨q2244, q136, ⟨by decide +kernel, by decide +kernel, by decide +kernel⟩, Nat.le_of_ble_eq_true h1, Nat.le_of_ble_eq_true h2⟩

set_option maxHeartbeats 4000000 in
noncomputable def F_X5_status (s : St)  : Option (Int32 × St) := nam (setI s 0 0 (0 : Int32)) fun s1 => some ((si s1 0 1), s1)
set_option maxHeartbeats 4000000 in
theorem c_X5_status {l : Launch} {E : EV} (hE : GE E) (hS : ∀ σ, eSk E σ → SkM σ) {s s' : St} {r : Int32}  (h : F_X5_status  s  = some (r, s')) : CT l E yX5_status cX5_status 1 (some .int) 0 0 [vr (some 0)] s (some (vi r)) s' := by
  refine CT.start hE (by decide) rfl [(0, vr (some 0))] rfl (fun X hX B => ?_)
  skip
  have B : FX X E cX5_status 1 (some .int) "RoseThrowModel" "status" (sn s) (ss s) 0 0 := B
  unfold F_X5_status at h
  refine r_aload_n (j := 0) B dX5_status_0 rfl rfl ?_
  refine r_iconst (v := 0) B dX5_status_1 (by decide) ?_
  obtain ⟨s1, e2, h⟩ := nam_e h
  refine pI5 (k := 0) B e2 rfl (fun z => by rw [(hS _ z).1 0 (by decide)]; rfl) rfl q1517 rfl rfl (fun _ _ _ => rfl) rfl dX5_status_2 ?_
  refine r_aload_n (j := 0) B dX5_status_5 rfl rfl ?_
  refine g5 (k := 1) B (vi (si s1 0 1)) rfl (fun z => by rw [(hS _ z).1 0 (by decide)]; rfl) rfl q1518 rfl (fun _ => rfl) dX5_status_6 ?_
  exact r_iret B dX5_status_9 h
set_option maxHeartbeats 4000000 in
theorem cw_X5_status {X : CX} {fr lo : Nat} (h1 : Nat.ble (0 + 1) fr = true) (h2 : Nat.ble (20 + 0) lo = true) : CW X fr lo yX5_status cX5_status 1 (some .int) 0 0 0 := ⟨q2250, q136, ⟨by decide +kernel, by decide +kernel, by decide +kernel⟩, Nat.le_of_ble_eq_true h1, Nat.le_of_ble_eq_true h2⟩

