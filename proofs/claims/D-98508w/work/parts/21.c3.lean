set_option maxRecDepth 100000
set_option maxHeartbeats 4000000 in
noncomputable def F_X0_slip_27 (s : St) (x1 : Int32) (x2 : Int32) (x3 : Int32) (x4 : Int32) (z0 : Int32) : Option (Int32 × St) := if (si s 2 10) = (-1 : Int32) then (some (z0, s)) else (bnd (F_X0_nothing s) fun _ s3 => gd (inb (0 : Int32) 15) <| nam (setL s3 22 (0 : Int32).toNatClampNeg ((x1).toInt64)) fun s6 => gd (inb (1 : Int32) 15) <| nam (setL s6 22 (1 : Int32).toNatClampNeg ((x2).toInt64)) fun s9 => bnd (F_X0_term s9 (2 : Int32)) fun r11 s12 => gd (inb (2 : Int32) 15) <| nam (setL s12 22 (2 : Int32).toNatClampNeg ((r11).toInt64)) fun s15 => bnd (F_X0_term s15 (3 : Int32)) fun r17 s18 => gd (inb (3 : Int32) 15) <| nam (setL s18 22 (3 : Int32).toNatClampNeg ((r17).toInt64)) fun s21 => gd (inb (4 : Int32) 15) <| nam (setL s21 22 (4 : Int32).toNatClampNeg ((x3).toInt64)) fun s24 => gd (inb (5 : Int32) 15) <| nam (setL s24 22 (5 : Int32).toNatClampNeg ((x4).toInt64)) fun s27 => bnd (F_X0_says s27 (0 : Int32)) fun r29 s30 => if r29 = (-4000000000 : Int64) then (some (z0, s30)) else (bnd (F_X0_near s30 r29 (0 : Int32) (9 : Int32)) fun r33 s34 => some (r33, s34)))
set_option maxHeartbeats 4000000 in
theorem w_X0_slip_27 {X : CX} {E : EV} {a0 s' : St} {r : Int32} (B : FX X E cX0_slip 9 (some .int) "RoseThrow" "slip" (sn a0) (ss a0) 243 13670) (hS : ∀ σ, eSk E σ ↔ SkC σ) (s : St) (x1 : Int32) (x2 : Int32) (x3 : Int32) (x4 : Int32) (z0 : Int32) (h : F_X0_slip_27   s x1 x2 x3 x4 z0 = some (r, s')) : J X E (sn a0) (ss a0) 9 (QR X E a0 (some (vi r)) s') s 27 [(0, vr (some 0)), (1, vi x1), (2, vi x2), (3, vi x3), (4, vi x4)] [vi z0] := by
  unfold F_X0_slip_27 at h
  refine r_istore (L' := [(0, vr (some 0)), (1, vi x1), (2, vi x2), (3, vi x3), (4, vi x4), (5, vi z0)]) B dX0_slip_27 (by decide) rfl rfl rfl ?_
  refine r_aload_n (j := 0) B dX0_slip_29 rfl rfl ?_
  refine g0 (k := 2) B (vr (some 2)) rfl (fun z => by rw [((hS _).1 z).1 0 (by decide)]; rfl) rfl q358 rfl (fun z => by rw [((hS _).1 z).2 _ (List.mem_of_getElem? (i := 1) rfl)]; rfl) dX0_slip_30 ?_
  refine g1N (k := 10) B (vi (si s 2 10)) rfl (fun z => by rw [((hS _).1 z).1 2 (by decide)]; rfl) rfl (lw_n q226 rfl) rfl (fun _ => rfl) dX0_slip_33 ?_
  refine r_iconst (v := -1) B dX0_slip_36 (by decide) ?_
  refine r_ic_ne (tgt := 43) B dX0_slip_37 (by decide) (fun cn1 => ?_) (fun cn1 => ?_)
  · have h := of cn1 h
    refine r_aload_n (j := 0) B dX0_slip_43 rfl rfl ?_
    obtain ⟨r2, s3, hc4, h⟩ := bnd_e h
    refine r_callV0 (As := []) (rest := []) B rfl rfl EX.same (c_X0_nothing B.ge hS hc4) (cw_X0_nothing rfl rfl) (fun z => RV.of 0 (by rw [((hS _).1 z).1 0 (by decide)]; rfl) rfl rfl qs9) q571 q573 rfl dX0_slip_44 ?_
    refine r_aload_n (j := 0) B dX0_slip_47 rfl rfl ?_
    refine g0 (k := 16) B (vr (some 20)) rfl (fun z => by rw [((hS _).1 z).1 0 (by decide)]; rfl) rfl q372 rfl (fun z => by rw [((hS _).1 z).2 _ (List.mem_of_getElem? (i := 10) rfl)]; rfl) dX0_slip_48 ?_
    refine g2N (k := 1) B (vr (some 22)) rfl (fun z => by rw [((hS _).1 z).1 20 (by decide)]; rfl) rfl (lw_n q322 rfl) rfl (fun z => by rw [((hS _).1 z).2 _ (List.mem_of_getElem? (i := 26) rfl)]; rfl) dX0_slip_51 ?_
    refine r_astore (L' := [(0, vr (some 0)), (1, vi x1), (2, vi x2), (3, vi x3), (4, vi x4), (5, vi z0), (6, vr (some 22))]) B dX0_slip_54 (by decide) rfl rfl rfl ?_
    refine r_aload (j := 6) B dX0_slip_56 rfl ?_
    refine r_iconst (v := 0) B dX0_slip_58 (by decide) ?_
    refine r_iload_n (j := 1) B dX0_slip_59 rfl rfl ?_
    refine r_i2l B dX0_slip_60 ?_
    obtain ⟨hg5, h⟩ := gd_e h
    obtain ⟨s6, e7, h⟩ := nam_e h
    refine r_last B e7 rfl (fun z => ((hS _).1 z).1 22 (by decide)) hg5 dX0_slip_61 ?_
    refine r_aload (j := 6) B dX0_slip_62 rfl ?_
    refine r_iconst (v := 1) B dX0_slip_64 (by decide) ?_
    refine r_iload_n (j := 2) B dX0_slip_65 rfl rfl ?_
    refine r_i2l B dX0_slip_66 ?_
    obtain ⟨hg8, h⟩ := gd_e h
    obtain ⟨s9, e10, h⟩ := nam_e h
    refine r_last B e10 rfl (fun z => ((hS _).1 z).1 22 (by decide)) hg8 dX0_slip_67 ?_
    refine r_aload (j := 6) B dX0_slip_68 rfl ?_
    refine r_iconst (v := 2) B dX0_slip_70 (by decide) ?_
    refine r_aload_n (j := 0) B dX0_slip_71 rfl rfl ?_
    refine r_iconst (v := 2) B dX0_slip_72 (by decide) ?_
    obtain ⟨r11, s12, hc13, h⟩ := bnd_e h
    refine r_callVv (As := [vi (2 : Int32)]) (rest := [vi (2 : Int32), vr (some 22)]) B rfl rfl EX.same (c_X0_term B.ge hS hc13) (cw_X0_term rfl rfl) (fun z => RV.of 0 (by rw [((hS _).1 z).1 0 (by decide)]; rfl) rfl rfl qs10) q576 q578 rfl dX0_slip_73 ?_
    refine r_i2l B dX0_slip_76 ?_
    obtain ⟨hg14, h⟩ := gd_e h
    obtain ⟨s15, e16, h⟩ := nam_e h
    refine r_last B e16 rfl (fun z => ((hS _).1 z).1 22 (by decide)) hg14 dX0_slip_77 ?_
    refine r_aload (j := 6) B dX0_slip_78 rfl ?_
    refine r_iconst (v := 3) B dX0_slip_80 (by decide) ?_
    refine r_aload_n (j := 0) B dX0_slip_81 rfl rfl ?_
    refine r_iconst (v := 3) B dX0_slip_82 (by decide) ?_
    obtain ⟨r17, s18, hc19, h⟩ := bnd_e h
    refine r_callVv (As := [vi (3 : Int32)]) (rest := [vi (3 : Int32), vr (some 22)]) B rfl rfl EX.same (c_X0_term B.ge hS hc19) (cw_X0_term rfl rfl) (fun z => RV.of 0 (by rw [((hS _).1 z).1 0 (by decide)]; rfl) rfl rfl qs10) q576 q578 rfl dX0_slip_83 ?_
    refine r_i2l B dX0_slip_86 ?_
    obtain ⟨hg20, h⟩ := gd_e h
    obtain ⟨s21, e22, h⟩ := nam_e h
    refine r_last B e22 rfl (fun z => ((hS _).1 z).1 22 (by decide)) hg20 dX0_slip_87 ?_
    refine r_aload (j := 6) B dX0_slip_88 rfl ?_
    refine r_iconst (v := 4) B dX0_slip_90 (by decide) ?_
    refine r_iload_n (j := 3) B dX0_slip_91 rfl rfl ?_
    refine r_i2l B dX0_slip_92 ?_
    obtain ⟨hg23, h⟩ := gd_e h
    obtain ⟨s24, e25, h⟩ := nam_e h
    refine r_last B e25 rfl (fun z => ((hS _).1 z).1 22 (by decide)) hg23 dX0_slip_93 ?_
    refine r_aload (j := 6) B dX0_slip_94 rfl ?_
    refine r_iconst (v := 5) B dX0_slip_96 (by decide) ?_
    refine r_iload (j := 4) B dX0_slip_97 rfl ?_
    refine r_i2l B dX0_slip_99 ?_
    obtain ⟨hg26, h⟩ := gd_e h
    obtain ⟨s27, e28, h⟩ := nam_e h
    refine r_last B e28 rfl (fun z => ((hS _).1 z).1 22 (by decide)) hg26 dX0_slip_100 ?_
    refine r_aload_n (j := 0) B dX0_slip_101 rfl rfl ?_
    refine r_iconst (v := 0) B dX0_slip_102 (by decide) ?_
    obtain ⟨r29, s30, hc31, h⟩ := bnd_e h
    refine r_callVv (As := [vi (0 : Int32)]) (rest := []) B rfl rfl EX.same (c_X0_says B.ge hS hc31) (cw_X0_says rfl rfl) (fun z => RV.of 0 (by rw [((hS _).1 z).1 0 (by decide)]; rfl) rfl rfl qs11) q580 q582 rfl dX0_slip_103 ?_
    refine r_lstore (L' := [(0, vr (some 0)), (1, vi x1), (2, vi x2), (3, vi x3), (4, vi x4), (5, vi z0), (6, vr (some 22)), (7, vl r29)]) B dX0_slip_106 (by decide) rfl rfl rfl ?_
    refine r_lload (j := 7) B dX0_slip_108 rfl ?_
    refine r_ldc2 B dX0_slip_110 q649 ?_
    refine r_lcmp B dX0_slip_113 ?_
    refine r_if_ne (tgt := 122) B dX0_slip_114 (by decide) (fun cn32 => ?_) (fun cn32 => ?_)
    · have h := of (fun z => cn32 (lc_eq.mpr z)) h
      refine r_lload (j := 7) B dX0_slip_122 rfl ?_
      refine r_iconst (v := 0) B dX0_slip_124 (by decide) ?_
      refine r_bipush (v := 9) B dX0_slip_125 (by decide) ?_
      obtain ⟨r33, s34, hc35, h⟩ := bnd_e h
      refine r_callSv (As := [vl r29, vi (0 : Int32), vi (9 : Int32)]) (rest := []) B rfl EX.same (c_X0_near B.ge hS hc35) (cw_X0_near rfl rfl) q1188 q1189 rfl dX0_slip_127 ?_
      exact r_iret B dX0_slip_130 h
    · have h := ot (lc_eq.mp cn32) h
      refine r_iload (j := 5) B dX0_slip_117 rfl ?_
      refine r_goto (tgt := 130) B dX0_slip_119 (by decide) ?_
      exact r_iret B dX0_slip_130 h
  · have h := ot cn1 h
    refine r_iload (j := 5) B dX0_slip_40 rfl ?_
    exact r_iret B dX0_slip_42 h
set_option maxHeartbeats 4000000 in
noncomputable def F_X0_slip_22 (s : St) (x1 : Int32) (x2 : Int32) (x3 : Int32) (x4 : Int32) : Option (Int32 × St) := F_X0_slip_27 s x1 x2 x3 x4 (2 : Int32)
set_option maxHeartbeats 4000000 in
theorem w_X0_slip_22 {X : CX} {E : EV} {a0 s' : St} {r : Int32} (B : FX X E cX0_slip 9 (some .int) "RoseThrow" "slip" (sn a0) (ss a0) 243 13670) (hS : ∀ σ, eSk E σ ↔ SkC σ) (s : St) (x1 : Int32) (x2 : Int32) (x3 : Int32) (x4 : Int32) (h : F_X0_slip_22   s x1 x2 x3 x4 = some (r, s')) : J X E (sn a0) (ss a0) 9 (QR X E a0 (some (vi r)) s') s 22 [(0, vr (some 0)), (1, vi x1), (2, vi x2), (3, vi x3), (4, vi x4)] [] := by
  unfold F_X0_slip_22 at h
  refine r_iconst (v := 2) B dX0_slip_22 (by decide) ?_
  refine r_goto (tgt := 27) B dX0_slip_23 (by decide) ?_
  exact w_X0_slip_27 B hS s x1 x2 x3 x4 (2 : Int32) h
set_option maxHeartbeats 4000000 in
noncomputable def F_X0_slip_13 (s : St) (x1 : Int32) (x2 : Int32) (x3 : Int32) (x4 : Int32) : Option (Int32 × St) := if x3 = 0 then (F_X0_slip_22 s x1 x2 x3 x4) else (if x4 = 0 then (F_X0_slip_22 s x1 x2 x3 x4) else (F_X0_slip_27 s x1 x2 x3 x4 (1 : Int32)))
set_option maxHeartbeats 4000000 in
theorem w_X0_slip_13 {X : CX} {E : EV} {a0 s' : St} {r : Int32} (B : FX X E cX0_slip 9 (some .int) "RoseThrow" "slip" (sn a0) (ss a0) 243 13670) (hS : ∀ σ, eSk E σ ↔ SkC σ) (s : St) (x1 : Int32) (x2 : Int32) (x3 : Int32) (x4 : Int32) (h : F_X0_slip_13   s x1 x2 x3 x4 = some (r, s')) : J X E (sn a0) (ss a0) 9 (QR X E a0 (some (vi r)) s') s 13 [(0, vr (some 0)), (1, vi x1), (2, vi x2), (3, vi x3), (4, vi x4)] [] := by
  unfold F_X0_slip_13 at h
  refine r_iload_n (j := 3) B dX0_slip_13 rfl rfl ?_
  refine r_if_eq (tgt := 22) B dX0_slip_14 (by decide) (fun cn1 => ?_) (fun cn1 => ?_)
  · have h := ot cn1 h
    exact w_X0_slip_22 B hS s x1 x2 x3 x4 h
  · have h := of cn1 h
    refine r_iload (j := 4) B dX0_slip_17 rfl ?_
    refine r_if_ne (tgt := 26) B dX0_slip_19 (by decide) (fun cn2 => ?_) (fun cn2 => ?_)
    · have h := of cn2 h
      refine r_iconst (v := 1) B dX0_slip_26 (by decide) ?_
      exact w_X0_slip_27 B hS s x1 x2 x3 x4 (1 : Int32) h
    · have h := ot cn2 h
      exact w_X0_slip_22 B hS s x1 x2 x3 x4 h
set_option maxHeartbeats 4000000 in
noncomputable def F_X0_slip (s : St) (p0 : Int32) (p1 : Int32) (p2 : Int32) (p3 : Int32) : Option (Int32 × St) := if p2 = 0 then (if p3 = 0 then (F_X0_slip_27 s p0 p1 p2 p3 (4 : Int32)) else (F_X0_slip_13 s p0 p1 p2 p3)) else (F_X0_slip_13 s p0 p1 p2 p3)
set_option maxHeartbeats 4000000 in
theorem c_X0_slip {l : Launch} {E : EV} (hE : GE E) (hS : ∀ σ, eSk E σ ↔ SkC σ) {s s' : St} {r : Int32} {p0 : Int32} {p1 : Int32} {p2 : Int32} {p3 : Int32} (h : F_X0_slip  s p0 p1 p2 p3 = some (r, s')) : CT l E yX0_slip cX0_slip 9 (some .int) 243 13670 [vr (some 0), vi p0, vi p1, vi p2, vi p3] s (some (vi r)) s' := by
  refine CT.start hE (by decide) rfl [(0, vr (some 0)), (1, vi p0), (2, vi p1), (3, vi p2), (4, vi p3)] rfl (fun X hX B => ?_)
  skip
  have B : FX X E cX0_slip 9 (some .int) "RoseThrow" "slip" (sn s) (ss s) 243 13670 := B
  unfold F_X0_slip at h
  refine r_iload_n (j := 3) B dX0_slip_0 rfl rfl ?_
  refine r_if_ne (tgt := 13) B dX0_slip_1 (by decide) (fun cn1 => ?_) (fun cn1 => ?_)
  · have h := of cn1 h
    exact w_X0_slip_13 B hS s p0 p1 p2 p3 h
  · have h := ot cn1 h
    refine r_iload (j := 4) B dX0_slip_4 rfl ?_
    refine r_if_ne (tgt := 13) B dX0_slip_6 (by decide) (fun cn2 => ?_) (fun cn2 => ?_)
    · have h := of cn2 h
      exact w_X0_slip_13 B hS s p0 p1 p2 p3 h
    · have h := ot cn2 h
      refine r_iconst (v := 4) B dX0_slip_9 (by decide) ?_
      refine r_goto (tgt := 27) B dX0_slip_10 (by decide) ?_
      exact w_X0_slip_27 B hS s p0 p1 p2 p3 (4 : Int32) h
set_option maxHeartbeats 4000000 in
theorem cw_X0_slip {X : CX} {fr lo : Nat} (h1 : Nat.ble (243 + 1) fr = true) (h2 : Nat.ble (28 + 13670) lo = true) : CW X fr lo yX0_slip cX0_slip 9 (some .int) 243 13670 4 := ⟨q1276, q126, ⟨by decide +kernel, by decide +kernel, by decide +kernel⟩, Nat.le_of_ble_eq_true h1, Nat.le_of_ble_eq_true h2⟩

set_option maxHeartbeats 4000000 in
noncomputable def F_X4_lays_41 (k32 : St → Option Nat → Int32 → Int32 → Int32 → Option (Unit × St)) : Nat → St → Option Nat → Int32 → Int32 → Int32 → Int32 → Option (Unit × St)
  | 0 => fun _ _ _ _ _ _ => none
  | n + 1 => fun s x0 x1 x2 x4 x5 => if (2 : Int32) ≤ x5 then (k32 s x0 x1 x2 (x4 + (1))) else (drf x0 fun a2 => gd (isK s a2 4) <| gd (isR (sr s a2 4) 0) <| bnd (F_X0_term s (4 : Int32)) fun r6 s7 => bnd (F_X0_cellAt s7 ((r6 + x2) + x5) (x1 + x4)) fun r9 s10 => drf x0 fun a12 => gd (isK s10 a12 4) <| gd (isR (sr s10 a12 4) 0) <| bnd (F_X0_slip s10 x1 x2 x5 x4) fun r16 s17 => drf x0 fun a19 => gd (isK s17 a19 4) <| bnd (F_X4_comes s17 a19 r9 r16) fun _ s23 => F_X4_lays_41 k32 n s23 x0 x1 x2 x4 (x5 + (1)))
set_option maxHeartbeats 4000000 in
theorem w_X4_lays_41 {X : CX} {E : EV} {a0 s' : St} {r : Unit} (B : FX X E cX4_lays 6 none "RoseThrow$Flight" "lays" (sn a0) (ss a0) 244 13698) (hS : ∀ σ, eSk E σ ↔ SkC σ) (k32 : St → Option Nat → Int32 → Int32 → Int32 → Option (Unit × St)) (hk32 : ∀ (s : St) (x0 : Option Nat) (x1 : Int32) (x2 : Int32) (x4 : Int32), k32 s x0 x1 x2 x4 = some (r, s') → J X E (sn a0) (ss a0) 6 (QR X E a0 none s') s 32 [(0, vr x0), (1, vi x1), (2, vi x2), (4, vi x4)] []) : ∀ (n : Nat) (s : St) (x0 : Option Nat) (x1 : Int32) (x2 : Int32) (x4 : Int32) (x5 : Int32), F_X4_lays_41  k32 n s x0 x1 x2 x4 x5 = some (r, s') → J X E (sn a0) (ss a0) 6 (QR X E a0 none s') s 41 [(0, vr x0), (1, vi x1), (2, vi x2), (4, vi x4), (5, vi x5)] [] := by
  intro n
  induction n with
  | zero => intro s x0 x1 x2 x4 x5 h; exact absurd (show (none : Option (Unit × St)) = _ from h) (by simp)
  | succ n ih =>
    intro s x0 x1 x2 x4 x5 h
    rw [F_X4_lays_41] at h
    refine r_iload (j := 4) B dX4_lays_41 rfl ?_
    refine r_iconst (v := 2) B dX4_lays_43 (by decide) ?_
    refine r_ic_ge (tgt := 90) B dX4_lays_44 (by decide) (fun cn1 => ?_) (fun cn1 => ?_)
    · have h := ot cn1 h
      refine r_iinc (j := 3) (v := (x4 + (1))) (L' := [(0, vr x0), (1, vi x1), (2, vi x2), (4, vi (x4 + (1))), (5, vi x5)]) B dX4_lays_90 rfl rfl (by decide) rfl rfl rfl ?_
      refine r_goto (tgt := 32) B dX4_lays_93 (by decide) ?_
      refine r_pick [0, 1, 2, 3] (L' := [(0, vr x0), (1, vi x1), (2, vi x2), (4, vi (x4 + (1)))]) rfl ?_
      exact hk32 s x0 x1 x2 (x4 + (1)) h
    · have h := of cn1 h
      refine r_aload_n (j := 0) B dX4_lays_47 rfl rfl ?_
      refine r_aload_n (j := 0) B dX4_lays_48 rfl rfl ?_
      obtain ⟨a2, ea3, h⟩ := drf_e h
      obtain ⟨hg4, h⟩ := gd_e h
      refine g4 (k := 4) B (vr (sr s a2 4)) ea3 (fun _ => isK_e hg4) rfl q343 rfl (fun _ => rfl) dX4_lays_49 ?_
      refine r_iconst (v := 4) B dX4_lays_52 (by decide) ?_
      obtain ⟨hg5, h⟩ := gd_e h
      obtain ⟨r6, s7, hc8, h⟩ := bnd_e h
      refine r_callVNv (As := [vi (4 : Int32)]) (rest := [vr x0]) B rfl (isR_e hg5) EX.same (c_X0_term B.ge hS hc8) (cw_X0_term rfl rfl) (fun z => RV.of 0 (by rw [((hS _).1 z).1 0 (by decide)]; rfl) rfl rfl qs10) (lw_n q1265 rfl) q578 rfl dX4_lays_53 ?_
      refine r_iload_n (j := 2) B dX4_lays_56 rfl rfl ?_
      refine r_iadd B dX4_lays_57 ?_
      refine r_iload (j := 4) B dX4_lays_58 rfl ?_
      refine r_iadd B dX4_lays_60 ?_
      refine r_iload_n (j := 1) B dX4_lays_61 rfl rfl ?_
      refine r_iload (j := 3) B dX4_lays_62 rfl ?_
      refine r_iadd B dX4_lays_64 ?_
      obtain ⟨r9, s10, hc11, h⟩ := bnd_e h
      refine r_callSNv (As := [vi ((r6 + x2) + x5), vi (x1 + x4)]) (rest := [vr x0]) B rfl EX.same (c_X0_cellAt B.ge hS hc11) (cw_X0_cellAt rfl rfl) (lw_n q1266 rfl) q1267 rfl dX4_lays_65 ?_
      refine r_aload_n (j := 0) B dX4_lays_68 rfl rfl ?_
      obtain ⟨a12, ea13, h⟩ := drf_e h
      obtain ⟨hg14, h⟩ := gd_e h
      refine g4 (k := 4) B (vr (sr s10 a12 4)) ea13 (fun _ => isK_e hg14) rfl q343 rfl (fun _ => rfl) dX4_lays_69 ?_
      refine r_iload_n (j := 1) B dX4_lays_72 rfl rfl ?_
      refine r_iload_n (j := 2) B dX4_lays_73 rfl rfl ?_
      refine r_iload (j := 4) B dX4_lays_74 rfl ?_
      refine r_iload (j := 3) B dX4_lays_76 rfl ?_
      obtain ⟨hg15, h⟩ := gd_e h
      obtain ⟨r16, s17, hc18, h⟩ := bnd_e h
      refine r_callVNv (As := [vi x1, vi x2, vi x5, vi x4]) (rest := [vi r9, vr x0]) B rfl (isR_e hg15) EX.same (c_X0_slip B.ge hS hc18) (cw_X0_slip rfl rfl) (fun z => RV.of 0 (by rw [((hS _).1 z).1 0 (by decide)]; rfl) rfl rfl qs29) (lw_n q1273 rfl) q1275 rfl dX4_lays_78 ?_
      obtain ⟨a19, ea20, h⟩ := drf_e h
      obtain ⟨hg21, h⟩ := gd_e h
      obtain ⟨r22, s23, hc24, h⟩ := bnd_e h
      refine r_callV0 (As := [vi r9, vi r16]) (rest := []) B rfl ea20 EX.same (c_X4_comes B.ge hS hc24) (cw_X4_comes rfl rfl) (fun z => RV.of 4 ((fun _ => isK_e hg21) z) rfl rfl qs28) q1269 q1271 rfl dX4_lays_81 ?_
      refine r_iinc (j := 4) (v := (x5 + (1))) (L' := [(0, vr x0), (1, vi x1), (2, vi x2), (4, vi x4), (5, vi (x5 + (1)))]) B dX4_lays_84 rfl rfl (by decide) rfl rfl rfl ?_
      refine r_goto (tgt := 41) B dX4_lays_87 (by decide) ?_
      exact ih s23 x0 x1 x2 x4 (x5 + (1)) h
set_option maxHeartbeats 4000000 in
noncomputable def F_X4_lays_32 : Nat → St → Option Nat → Int32 → Int32 → Int32 → Option (Unit × St)
  | 0 => fun _ _ _ _ _ => none
  | n + 1 => fun s x0 x1 x2 x4 => if (2 : Int32) ≤ x4 then (drf x0 fun a2 => gd (isK s a2 4) <| if (si s a2 3) ≤ 0 then (drf x0 fun a6 => gd (isK s a6 4) <| nam (setI s a6 2 (0 : Int32)) fun s9 => drf x0 fun a11 => gd (isK s9 a11 4) <| gd (isR (sr s9 a11 4) 0) <| bnd (F_X0_term s9 (4 : Int32)) fun r15 s16 => bnd (F_X0_cellAt s16 (r15 + x2) x1) fun r18 s19 => drf x0 fun a21 => gd (isK s19 a21 4) <| bnd (F_X4_comes s19 a21 r18 (1 : Int32)) fun _ s25 => some ((), s25)) else (some ((), s))) else (F_X4_lays_41 (F_X4_lays_32  n) FU s x0 x1 x2 x4 (-1 : Int32))
set_option maxHeartbeats 4000000 in
theorem w_X4_lays_32 {X : CX} {E : EV} {a0 s' : St} {r : Unit} (B : FX X E cX4_lays 6 none "RoseThrow$Flight" "lays" (sn a0) (ss a0) 244 13698) (hS : ∀ σ, eSk E σ ↔ SkC σ) : ∀ (n : Nat) (s : St) (x0 : Option Nat) (x1 : Int32) (x2 : Int32) (x4 : Int32), F_X4_lays_32   n s x0 x1 x2 x4 = some (r, s') → J X E (sn a0) (ss a0) 6 (QR X E a0 none s') s 32 [(0, vr x0), (1, vi x1), (2, vi x2), (4, vi x4)] [] := by
  intro n
  induction n with
  | zero => intro s x0 x1 x2 x4 h; exact absurd (show (none : Option (Unit × St)) = _ from h) (by simp)
  | succ n ih =>
    intro s x0 x1 x2 x4 h
    rw [F_X4_lays_32] at h
    refine r_iload (j := 3) B dX4_lays_32 rfl ?_
    refine r_iconst (v := 2) B dX4_lays_34 (by decide) ?_
    refine r_ic_ge (tgt := 96) B dX4_lays_35 (by decide) (fun cn1 => ?_) (fun cn1 => ?_)
    · have h := ot cn1 h
      refine r_aload_n (j := 0) B dX4_lays_96 rfl rfl ?_
      obtain ⟨a2, ea3, h⟩ := drf_e h
      obtain ⟨hg4, h⟩ := gd_e h
      refine g4 (k := 3) B (vi (si s a2 3)) ea3 (fun _ => isK_e hg4) rfl q341 rfl (fun _ => rfl) dX4_lays_97 ?_
      refine r_if_le (tgt := 104) B dX4_lays_100 (by decide) (fun cn5 => ?_) (fun cn5 => ?_)
      · have h := ot cn5 h
        refine r_aload_n (j := 0) B dX4_lays_104 rfl rfl ?_
        refine r_iconst (v := 0) B dX4_lays_105 (by decide) ?_
        obtain ⟨a6, ea7, h⟩ := drf_e h
        obtain ⟨hg8, h⟩ := gd_e h
        obtain ⟨s9, e10, h⟩ := nam_e h
        refine pI4 (k := 2) B e10 ea7 (fun _ => isK_e hg8) rfl q339 rfl rfl (fun _ _ _ => rfl) rfl dX4_lays_106 ?_
        refine r_aload_n (j := 0) B dX4_lays_109 rfl rfl ?_
        refine r_aload_n (j := 0) B dX4_lays_110 rfl rfl ?_
        obtain ⟨a11, ea12, h⟩ := drf_e h
        obtain ⟨hg13, h⟩ := gd_e h
        refine g4 (k := 4) B (vr (sr s9 a11 4)) ea12 (fun _ => isK_e hg13) rfl q343 rfl (fun _ => rfl) dX4_lays_111 ?_
        refine r_iconst (v := 4) B dX4_lays_114 (by decide) ?_
        obtain ⟨hg14, h⟩ := gd_e h
        obtain ⟨r15, s16, hc17, h⟩ := bnd_e h
        refine r_callVNv (As := [vi (4 : Int32)]) (rest := [vr x0]) B rfl (isR_e hg14) EX.same (c_X0_term B.ge hS hc17) (cw_X0_term rfl rfl) (fun z => RV.of 0 (by rw [((hS _).1 z).1 0 (by decide)]; rfl) rfl rfl qs10) (lw_n q1265 rfl) q578 rfl dX4_lays_115 ?_
        refine r_iload_n (j := 2) B dX4_lays_118 rfl rfl ?_
        refine r_iadd B dX4_lays_119 ?_
        refine r_iload_n (j := 1) B dX4_lays_120 rfl rfl ?_
        obtain ⟨r18, s19, hc20, h⟩ := bnd_e h
        refine r_callSNv (As := [vi (r15 + x2), vi x1]) (rest := [vr x0]) B rfl EX.same (c_X0_cellAt B.ge hS hc20) (cw_X0_cellAt rfl rfl) (lw_n q1266 rfl) q1267 rfl dX4_lays_121 ?_
        refine r_iconst (v := 1) B dX4_lays_124 (by decide) ?_
        obtain ⟨a21, ea22, h⟩ := drf_e h
        obtain ⟨hg23, h⟩ := gd_e h
        obtain ⟨r24, s25, hc26, h⟩ := bnd_e h
        refine r_callV0 (As := [vi r18, vi (1 : Int32)]) (rest := []) B rfl ea22 EX.same (c_X4_comes B.ge hS hc26) (cw_X4_comes rfl rfl) (fun z => RV.of 4 ((fun _ => isK_e hg23) z) rfl rfl qs28) q1269 q1271 rfl dX4_lays_125 ?_
        exact r_vret B dX4_lays_128 h
      · have h := of cn5 h
        exact r_vret B dX4_lays_103 h
    · have h := of cn1 h
      refine r_iconst (v := -1) B dX4_lays_38 (by decide) ?_
      refine r_istore (L' := [(0, vr x0), (1, vi x1), (2, vi x2), (4, vi x4), (5, vi (-1 : Int32))]) B dX4_lays_39 (by decide) rfl rfl rfl ?_
      exact w_X4_lays_41 B hS (F_X4_lays_32  n) ih FU s x0 x1 x2 x4 (-1 : Int32) h
set_option maxHeartbeats 4000000 in
noncomputable def F_X4_lays (s : St) (this : Nat) (p0 : Int32) (p1 : Int32) : Option (Unit × St) := gd (isK s this 4) <| bnd (F_X4_lampOn s this p0 p1) fun r2 s3 => gd (isK s3 this 4) <| nam (setI s3 this 2 (0 : Int32)) fun s6 => gd (isK s6 this 4) <| nam (setI s6 this 3 (0 : Int32)) fun s9 => if r2 = (-1 : Int32) then (F_X4_lays_32 FU s9 (some this) p0 p1 (-1 : Int32)) else (gd (isK s9 this 4) <| bnd (F_X4_comes s9 this r2 (1 : Int32)) fun _ s14 => some ((), s14))
set_option maxHeartbeats 4000000 in
theorem c_X4_lays {l : Launch} {E : EV} (hE : GE E) (hS : ∀ σ, eSk E σ ↔ SkC σ) {s s' : St} {r : Unit} {this : Nat} {p0 : Int32} {p1 : Int32} (h : F_X4_lays  s this p0 p1 = some (r, s')) : CT l E yX4_lays cX4_lays 6 none 244 13698 [vr (some this), vi p0, vi p1] s none s' := by
  refine CT.start hE (by decide) rfl [(0, vr (some this)), (1, vi p0), (2, vi p1)] rfl (fun X hX B => ?_)
  skip
  have B : FX X E cX4_lays 6 none "RoseThrow$Flight" "lays" (sn s) (ss s) 244 13698 := B
  unfold F_X4_lays at h
  refine r_aload_n (j := 0) B dX4_lays_0 rfl rfl ?_
  refine r_iload_n (j := 1) B dX4_lays_1 rfl rfl ?_
  refine r_iload_n (j := 2) B dX4_lays_2 rfl rfl ?_
  obtain ⟨hg1, h⟩ := gd_e h
  obtain ⟨r2, s3, hc4, h⟩ := bnd_e h
  refine r_callVv (As := [vi p0, vi p1]) (rest := []) B rfl rfl EX.same (c_X4_lampOn B.ge hS hc4) (cw_X4_lampOn rfl rfl) (fun z => RV.of 4 ((fun _ => isK_e hg1) z) rfl rfl qs27) q1261 q1263 rfl dX4_lays_3 ?_
  refine r_istore_n (L' := [(0, vr (some this)), (1, vi p0), (2, vi p1), (3, vi r2)]) B dX4_lays_6 rfl (by decide) rfl rfl rfl ?_
  refine r_aload_n (j := 0) B dX4_lays_7 rfl rfl ?_
  refine r_iconst (v := 0) B dX4_lays_8 (by decide) ?_
  obtain ⟨hg5, h⟩ := gd_e h
  obtain ⟨s6, e7, h⟩ := nam_e h
  refine pI4 (k := 2) B e7 rfl (fun _ => isK_e hg5) rfl q339 rfl rfl (fun _ _ _ => rfl) rfl dX4_lays_9 ?_
  refine r_aload_n (j := 0) B dX4_lays_12 rfl rfl ?_
  refine r_iconst (v := 0) B dX4_lays_13 (by decide) ?_
  obtain ⟨hg8, h⟩ := gd_e h
  obtain ⟨s9, e10, h⟩ := nam_e h
  refine pI4 (k := 3) B e10 rfl (fun _ => isK_e hg8) rfl q341 rfl rfl (fun _ _ _ => rfl) rfl dX4_lays_14 ?_
  refine r_iload_n (j := 3) B dX4_lays_17 rfl rfl ?_
  refine r_iconst (v := -1) B dX4_lays_18 (by decide) ?_
  refine r_ic_eq (tgt := 29) B dX4_lays_19 (by decide) (fun cn11 => ?_) (fun cn11 => ?_)
  · have h := ot cn11 h
    refine r_iconst (v := -1) B dX4_lays_29 (by decide) ?_
    refine r_istore (L' := [(0, vr (some this)), (1, vi p0), (2, vi p1), (3, vi r2), (4, vi (-1 : Int32))]) B dX4_lays_30 (by decide) rfl rfl rfl ?_
    refine r_pick [0, 1, 2, 4] (L' := [(0, vr (some this)), (1, vi p0), (2, vi p1), (4, vi (-1 : Int32))]) rfl ?_
    exact w_X4_lays_32 B hS FU s9 (some this) p0 p1 (-1 : Int32) h
  · have h := of cn11 h
    refine r_aload_n (j := 0) B dX4_lays_22 rfl rfl ?_
    refine r_iload_n (j := 3) B dX4_lays_23 rfl rfl ?_
    refine r_iconst (v := 1) B dX4_lays_24 (by decide) ?_
    obtain ⟨hg12, h⟩ := gd_e h
    obtain ⟨r13, s14, hc15, h⟩ := bnd_e h
    refine r_callV0 (As := [vi r2, vi (1 : Int32)]) (rest := []) B rfl rfl EX.same (c_X4_comes B.ge hS hc15) (cw_X4_comes rfl rfl) (fun z => RV.of 4 ((fun _ => isK_e hg12) z) rfl rfl qs28) q1269 q1271 rfl dX4_lays_25 ?_
    exact r_vret B dX4_lays_28 h
set_option maxHeartbeats 4000000 in
theorem cw_X4_lays {X : CX} {fr lo : Nat} (h1 : Nat.ble (244 + 1) fr = true) (h2 : Nat.ble (25 + 13698) lo = true) : CW X fr lo yX4_lays cX4_lays 6 none 244 13698 2 := ⟨q1260, q135, ⟨by decide +kernel, by decide +kernel, by decide +kernel⟩, Nat.le_of_ble_eq_true h1, Nat.le_of_ble_eq_true h2⟩

set_option maxHeartbeats 4000000 in
noncomputable def F_X0_looks_43 (k30 : St → Int32 → Option (Unit × St)) : Nat → St → Int32 → Int32 → Option (Unit × St)
  | 0 => fun _ _ _ => none
  | n + 1 => fun s x1 x2 => if (10 : Int32) < x2 then (k30 s (x1 + (1))) else (bnd (F_X0_grip s x1 x2) fun r2 s3 => gd (inb (((11 : Int32) * x1) + x2) 66) <| nam (setI s3 27 (((11 : Int32) * x1) + x2).toNatClampNeg r2) fun s6 => F_X0_looks_43 k30 n s6 x1 (x2 + (1)))
set_option maxHeartbeats 4000000 in
theorem w_X0_looks_43 {X : CX} {E : EV} {a0 s' : St} {r : Unit} (B : FX X E cX0_looks 3 none "RoseThrow" "looks" (sn a0) (ss a0) 245 13723) (hS : ∀ σ, eSk E σ ↔ SkC σ) (k30 : St → Int32 → Option (Unit × St)) (hk30 : ∀ (s : St) (x1 : Int32), k30 s x1 = some (r, s') → J X E (sn a0) (ss a0) 3 (QR X E a0 none s') s 30 [(0, vr (some 0)), (1, vi x1)] []) : ∀ (n : Nat) (s : St) (x1 : Int32) (x2 : Int32), F_X0_looks_43  k30 n s x1 x2 = some (r, s') → J X E (sn a0) (ss a0) 3 (QR X E a0 none s') s 43 [(0, vr (some 0)), (1, vi x1), (2, vi x2)] [] := by
  intro n
  induction n with
  | zero => intro s x1 x2 h; exact absurd (show (none : Option (Unit × St)) = _ from h) (by simp)
  | succ n ih =>
    intro s x1 x2 h
    rw [F_X0_looks_43] at h
    refine r_iload_n (j := 2) B dX0_looks_43 rfl rfl ?_
    refine r_bipush (v := 10) B dX0_looks_44 (by decide) ?_
    refine r_ic_gt (tgt := 72) B dX0_looks_46 (by decide) (fun cn1 => ?_) (fun cn1 => ?_)
    · have h := ot cn1 h
      refine r_iinc (j := 1) (v := (x1 + (1))) (L' := [(0, vr (some 0)), (1, vi (x1 + (1))), (2, vi x2)]) B dX0_looks_72 rfl rfl (by decide) rfl rfl rfl ?_
      refine r_goto (tgt := 30) B dX0_looks_75 (by decide) ?_
      refine r_pick [0, 1] (L' := [(0, vr (some 0)), (1, vi (x1 + (1)))]) rfl ?_
      exact hk30 s (x1 + (1)) h
    · have h := of cn1 h
      refine r_aload_n (j := 0) B dX0_looks_49 rfl rfl ?_
      refine g0 (k := 19) B (vr (some 27)) rfl (fun z => by rw [((hS _).1 z).1 0 (by decide)]; rfl) rfl q375 rfl (fun z => by rw [((hS _).1 z).2 _ (List.mem_of_getElem? (i := 13) rfl)]; rfl) dX0_looks_50 ?_
      refine r_bipush (v := 11) B dX0_looks_53 (by decide) ?_
      refine r_iload_n (j := 1) B dX0_looks_55 rfl rfl ?_
      refine r_imul B dX0_looks_56 ?_
      refine r_iload_n (j := 2) B dX0_looks_57 rfl rfl ?_
      refine r_iadd B dX0_looks_58 ?_
      refine r_aload_n (j := 0) B dX0_looks_59 rfl rfl ?_
      refine r_iload_n (j := 1) B dX0_looks_60 rfl rfl ?_
      refine r_iload_n (j := 2) B dX0_looks_61 rfl rfl ?_
      obtain ⟨r2, s3, hc4, h⟩ := bnd_e h
      refine r_callVv (As := [vi x1, vi x2]) (rest := [vi (((11 : Int32) * x1) + x2), vr (some 27)]) B rfl rfl EX.same (c_X0_grip B.ge hS hc4) (cw_X0_grip rfl rfl) (fun z => RV.of 0 (by rw [((hS _).1 z).1 0 (by decide)]; rfl) rfl rfl qs17) q1184 q1186 rfl dX0_looks_62 ?_
      obtain ⟨hg5, h⟩ := gd_e h
      obtain ⟨s6, e7, h⟩ := nam_e h
      refine r_iast B e7 rfl (fun z => ((hS _).1 z).1 27 (by decide)) hg5 dX0_looks_65 ?_
      refine r_iinc (j := 2) (v := (x2 + (1))) (L' := [(0, vr (some 0)), (1, vi x1), (2, vi (x2 + (1)))]) B dX0_looks_66 rfl rfl (by decide) rfl rfl rfl ?_
      refine r_goto (tgt := 43) B dX0_looks_69 (by decide) ?_
      exact ih s6 x1 (x2 + (1)) h
set_option maxHeartbeats 4000000 in
noncomputable def F_X0_looks_30 : Nat → St → Int32 → Option (Unit × St)
  | 0 => fun _ _ => none
  | n + 1 => fun s x1 => if (si s 2 8) ≤ x1 then (some ((), s)) else (F_X0_looks_43 (F_X0_looks_30  n) FU s x1 (0 : Int32))
set_option maxHeartbeats 4000000 in
theorem w_X0_looks_30 {X : CX} {E : EV} {a0 s' : St} {r : Unit} (B : FX X E cX0_looks 3 none "RoseThrow" "looks" (sn a0) (ss a0) 245 13723) (hS : ∀ σ, eSk E σ ↔ SkC σ) : ∀ (n : Nat) (s : St) (x1 : Int32), F_X0_looks_30   n s x1 = some (r, s') → J X E (sn a0) (ss a0) 3 (QR X E a0 none s') s 30 [(0, vr (some 0)), (1, vi x1)] [] := by
  intro n
  induction n with
  | zero => intro s x1 h; exact absurd (show (none : Option (Unit × St)) = _ from h) (by simp)
  | succ n ih =>
    intro s x1 h
    rw [F_X0_looks_30] at h
    refine r_iload_n (j := 1) B dX0_looks_30 rfl rfl ?_
    refine r_aload_n (j := 0) B dX0_looks_31 rfl rfl ?_
    refine g0 (k := 2) B (vr (some 2)) rfl (fun z => by rw [((hS _).1 z).1 0 (by decide)]; rfl) rfl q358 rfl (fun z => by rw [((hS _).1 z).2 _ (List.mem_of_getElem? (i := 1) rfl)]; rfl) dX0_looks_32 ?_
    refine g1N (k := 8) B (vi (si s 2 8)) rfl (fun z => by rw [((hS _).1 z).1 2 (by decide)]; rfl) rfl (lw_n q222 rfl) rfl (fun _ => rfl) dX0_looks_35 ?_
    refine r_ic_ge (tgt := 78) B dX0_looks_38 (by decide) (fun cn1 => ?_) (fun cn1 => ?_)
    · have h := ot cn1 h
      exact r_vret B dX0_looks_78 h
    · have h := of cn1 h
      refine r_iconst (v := 0) B dX0_looks_41 (by decide) ?_
      refine r_istore_n (L' := [(0, vr (some 0)), (1, vi x1), (2, vi (0 : Int32))]) B dX0_looks_42 rfl (by decide) rfl rfl rfl ?_
      exact w_X0_looks_43 B hS (F_X0_looks_30  n) ih FU s x1 (0 : Int32) h
set_option maxHeartbeats 4000000 in
noncomputable def F_X0_looks (s : St)  : Option (Unit × St) := bnd (F_X0_term s (0 : Int32)) fun r1 s2 => bnd (F_X0_term s2 (1 : Int32)) fun r4 s5 => bnd (F_X4_lays s5 23 r1 r4) fun _ s8 => nam (setI s8 0 20 (si s8 2 8)) fun s10 => F_X0_looks_30 FU s10 (0 : Int32)
set_option maxHeartbeats 4000000 in
theorem c_X0_looks {l : Launch} {E : EV} (hE : GE E) (hS : ∀ σ, eSk E σ ↔ SkC σ) {s s' : St} {r : Unit}  (h : F_X0_looks  s  = some (r, s')) : CT l E yX0_looks cX0_looks 3 none 245 13723 [vr (some 0)] s none s' := by
  refine CT.start hE (by decide) rfl [(0, vr (some 0))] rfl (fun X hX B => ?_)
  skip
  have B : FX X E cX0_looks 3 none "RoseThrow" "looks" (sn s) (ss s) 245 13723 := B
  unfold F_X0_looks at h
  refine r_aload_n (j := 0) B dX0_looks_0 rfl rfl ?_
  refine g0 (k := 17) B (vr (some 23)) rfl (fun z => by rw [((hS _).1 z).1 0 (by decide)]; rfl) rfl q373 rfl (fun z => by rw [((hS _).1 z).2 _ (List.mem_of_getElem? (i := 11) rfl)]; rfl) dX0_looks_1 ?_
  refine r_aload_n (j := 0) B dX0_looks_4 rfl rfl ?_
  refine r_iconst (v := 0) B dX0_looks_5 (by decide) ?_
  obtain ⟨r1, s2, hc3, h⟩ := bnd_e h
  refine r_callVv (As := [vi (0 : Int32)]) (rest := [vr (some 23)]) B rfl rfl EX.same (c_X0_term B.ge hS hc3) (cw_X0_term rfl rfl) (fun z => RV.of 0 (by rw [((hS _).1 z).1 0 (by decide)]; rfl) rfl rfl qs10) q576 q578 rfl dX0_looks_6 ?_
  refine r_aload_n (j := 0) B dX0_looks_9 rfl rfl ?_
  refine r_iconst (v := 1) B dX0_looks_10 (by decide) ?_
  obtain ⟨r4, s5, hc6, h⟩ := bnd_e h
  refine r_callVv (As := [vi (1 : Int32)]) (rest := [vi r1, vr (some 23)]) B rfl rfl EX.same (c_X0_term B.ge hS hc6) (cw_X0_term rfl rfl) (fun z => RV.of 0 (by rw [((hS _).1 z).1 0 (by decide)]; rfl) rfl rfl qs10) q576 q578 rfl dX0_looks_11 ?_
  obtain ⟨r7, s8, hc9, h⟩ := bnd_e h
  refine r_callV0 (As := [vi r1, vi r4]) (rest := []) B rfl rfl EX.same (c_X4_lays B.ge hS hc9) (cw_X4_lays rfl rfl) (fun z => RV.of 4 ((fun z => by rw [((hS _).1 z).1 23 (by decide)]; rfl) z) rfl rfl q1259) q1257 q1258 rfl dX0_looks_14 ?_
  refine r_aload_n (j := 0) B dX0_looks_17 rfl rfl ?_
  refine r_aload_n (j := 0) B dX0_looks_18 rfl rfl ?_
  refine g0 (k := 2) B (vr (some 2)) rfl (fun z => by rw [((hS _).1 z).1 0 (by decide)]; rfl) rfl q358 rfl (fun z => by rw [((hS _).1 z).2 _ (List.mem_of_getElem? (i := 1) rfl)]; rfl) dX0_looks_19 ?_
  refine g1N (k := 8) B (vi (si s8 2 8)) rfl (fun z => by rw [((hS _).1 z).1 2 (by decide)]; rfl) rfl (lw_n q222 rfl) rfl (fun _ => rfl) dX0_looks_22 ?_
  obtain ⟨s10, e11, h⟩ := nam_e h
  refine pI0 (k := 20) B e11 rfl (fun z => by rw [((hS _).1 z).1 0 (by decide)]; rfl) rfl q376 rfl rfl (fun _ _ _ => rfl) rfl dX0_looks_25 ?_
  refine r_iconst (v := 0) B dX0_looks_28 (by decide) ?_
  refine r_istore_n (L' := [(0, vr (some 0)), (1, vi (0 : Int32))]) B dX0_looks_29 rfl (by decide) rfl rfl rfl ?_
  exact w_X0_looks_30 B hS FU s10 (0 : Int32) h
set_option maxHeartbeats 4000000 in
theorem cw_X0_looks {X : CX} {fr lo : Nat} (h1 : Nat.ble (245 + 1) fr = true) (h2 : Nat.ble (22 + 13723) lo = true) : CW X fr lo yX0_looks cX0_looks 3 none 245 13723 0 := ⟨q1256, q126, ⟨by decide +kernel, by decide +kernel, by decide +kernel⟩, Nat.le_of_ble_eq_true h1, Nat.le_of_ble_eq_true h2⟩

set_option maxHeartbeats 4000000 in
noncomputable def F_X4_weightOf_4 : Nat → St → Option Nat → Int32 → Int32 → Int32 → Option (Int32 × St)
  | 0 => fun _ _ _ _ _ => none
  | n + 1 => fun s x0 x1 x2 x3 => drf x0 fun a1 => gd (isK s a1 4) <| if (si s a1 2) ≤ x3 then (some (x2, s)) else (drf x0 fun a5 => gd (isK s a5 4) <| drf (sr s a5 0) fun a8 => gd (isK s a8 100) <| gd (inb x3 (sk s a8).2) <| if (si s a8 x3.toNatClampNeg) = x1 then (drf x0 fun a13 => gd (isK s a13 4) <| drf (sr s a13 1) fun a16 => gd (isK s a16 100) <| gd (inb x3 (sk s a16).2) <| nam (x2 + (si s a16 x3.toNatClampNeg)) fun y20 => F_X4_weightOf_4  n s x0 x1 y20 (x3 + (1))) else (F_X4_weightOf_4  n s x0 x1 (x2 + (0 : Int32)) (x3 + (1))))
set_option maxHeartbeats 4000000 in
theorem w_X4_weightOf_4 {X : CX} {E : EV} {a0 s' : St} {r : Int32} (B : FX X E cX4_weightOf 4 (some .int) "RoseThrow$Flight" "weightOf" (sn a0) (ss a0) 0 0) (hS : ∀ σ, eSk E σ ↔ SkC σ) : ∀ (n : Nat) (s : St) (x0 : Option Nat) (x1 : Int32) (x2 : Int32) (x3 : Int32), F_X4_weightOf_4   n s x0 x1 x2 x3 = some (r, s') → J X E (sn a0) (ss a0) 4 (QR X E a0 (some (vi r)) s') s 4 [(0, vr x0), (1, vi x1), (2, vi x2), (3, vi x3)] [] := by
  intro n
  induction n with
  | zero => intro s x0 x1 x2 x3 h; exact absurd (show (none : Option (Int32 × St)) = _ from h) (by simp)
  | succ n ih =>
    intro s x0 x1 x2 x3 h
    rw [F_X4_weightOf_4] at h
    refine r_iload_n (j := 3) B dX4_weightOf_4 rfl rfl ?_
    refine r_aload_n (j := 0) B dX4_weightOf_5 rfl rfl ?_
    obtain ⟨a1, ea2, h⟩ := drf_e h
    obtain ⟨hg3, h⟩ := gd_e h
    refine g4 (k := 2) B (vi (si s a1 2)) ea2 (fun _ => isK_e hg3) rfl q339 rfl (fun _ => rfl) dX4_weightOf_6 ?_
    refine r_ic_ge (tgt := 41) B dX4_weightOf_9 (by decide) (fun cn4 => ?_) (fun cn4 => ?_)
    · have h := ot cn4 h
      refine r_iload_n (j := 2) B dX4_weightOf_41 rfl rfl ?_
      exact r_iret B dX4_weightOf_42 h
    · have h := of cn4 h
      refine r_iload_n (j := 2) B dX4_weightOf_12 rfl rfl ?_
      refine r_aload_n (j := 0) B dX4_weightOf_13 rfl rfl ?_
      obtain ⟨a5, ea6, h⟩ := drf_e h
      obtain ⟨hg7, h⟩ := gd_e h
      refine g4 (k := 0) B (vr (sr s a5 0)) ea6 (fun _ => isK_e hg7) rfl q335 rfl (fun _ => rfl) dX4_weightOf_14 ?_
      refine r_iload_n (j := 3) B dX4_weightOf_17 rfl rfl ?_
      obtain ⟨a8, ea9, h⟩ := drf_e h
      obtain ⟨hg10, h⟩ := gd_e h
      obtain ⟨hg11, h⟩ := gd_e h
      refine r_iald B ea9 (fun _ => isK_a hg10) hg11 dX4_weightOf_18 ?_
      refine r_iload_n (j := 1) B dX4_weightOf_19 rfl rfl ?_
      refine r_ic_ne (tgt := 32) B dX4_weightOf_20 (by decide) (fun cn12 => ?_) (fun cn12 => ?_)
      · have h := of cn12 h
        refine r_iconst (v := 0) B dX4_weightOf_32 (by decide) ?_
        refine r_iadd B dX4_weightOf_33 ?_
        refine r_istore_n (L' := [(0, vr x0), (1, vi x1), (2, vi (x2 + (0 : Int32))), (3, vi x3)]) B dX4_weightOf_34 rfl (by decide) rfl rfl rfl ?_
        refine r_iinc (j := 3) (v := (x3 + (1))) (L' := [(0, vr x0), (1, vi x1), (2, vi (x2 + (0 : Int32))), (3, vi (x3 + (1)))]) B dX4_weightOf_35 rfl rfl (by decide) rfl rfl rfl ?_
        refine r_goto (tgt := 4) B dX4_weightOf_38 (by decide) ?_
        exact ih s x0 x1 (x2 + (0 : Int32)) (x3 + (1)) h
      · have h := ot cn12 h
        refine r_aload_n (j := 0) B dX4_weightOf_23 rfl rfl ?_
        obtain ⟨a13, ea14, h⟩ := drf_e h
        obtain ⟨hg15, h⟩ := gd_e h
        refine g4 (k := 1) B (vr (sr s a13 1)) ea14 (fun _ => isK_e hg15) rfl q337 rfl (fun _ => rfl) dX4_weightOf_24 ?_
        refine r_iload_n (j := 3) B dX4_weightOf_27 rfl rfl ?_
        obtain ⟨a16, ea17, h⟩ := drf_e h
        obtain ⟨hg18, h⟩ := gd_e h
        obtain ⟨hg19, h⟩ := gd_e h
        refine r_iald B ea17 (fun _ => isK_a hg18) hg19 dX4_weightOf_28 ?_
        refine r_goto (tgt := 33) B dX4_weightOf_29 (by decide) ?_
        refine r_iadd B dX4_weightOf_33 ?_
        obtain ⟨y20, e21, h⟩ := nam_e h
        refine r_topi e21 ?_
        refine r_istore_n (L' := [(0, vr x0), (1, vi x1), (2, vi y20), (3, vi x3)]) B dX4_weightOf_34 rfl (by decide) rfl rfl rfl ?_
        refine r_iinc (j := 3) (v := (x3 + (1))) (L' := [(0, vr x0), (1, vi x1), (2, vi y20), (3, vi (x3 + (1)))]) B dX4_weightOf_35 rfl rfl (by decide) rfl rfl rfl ?_
        refine r_goto (tgt := 4) B dX4_weightOf_38 (by decide) ?_
        exact ih s x0 x1 y20 (x3 + (1)) h
set_option maxHeartbeats 4000000 in
noncomputable def F_X4_weightOf (s : St) (this : Nat) (p0 : Int32) : Option (Int32 × St) := F_X4_weightOf_4 FU s (some this) p0 (0 : Int32) (0 : Int32)
set_option maxHeartbeats 4000000 in
theorem c_X4_weightOf {l : Launch} {E : EV} (hE : GE E) (hS : ∀ σ, eSk E σ ↔ SkC σ) {s s' : St} {r : Int32} {this : Nat} {p0 : Int32} (h : F_X4_weightOf  s this p0 = some (r, s')) : CT l E yX4_weightOf cX4_weightOf 4 (some .int) 0 0 [vr (some this), vi p0] s (some (vi r)) s' := by
  refine CT.start hE (by decide) rfl [(0, vr (some this)), (1, vi p0)] rfl (fun X hX B => ?_)
  skip
  have B : FX X E cX4_weightOf 4 (some .int) "RoseThrow$Flight" "weightOf" (sn s) (ss s) 0 0 := B
  unfold F_X4_weightOf at h
  refine r_iconst (v := 0) B dX4_weightOf_0 (by decide) ?_
  refine r_istore_n (L' := [(0, vr (some this)), (1, vi p0), (2, vi (0 : Int32))]) B dX4_weightOf_1 rfl (by decide) rfl rfl rfl ?_
  refine r_iconst (v := 0) B dX4_weightOf_2 (by decide) ?_
  refine r_istore_n (L' := [(0, vr (some this)), (1, vi p0), (2, vi (0 : Int32)), (3, vi (0 : Int32))]) B dX4_weightOf_3 rfl (by decide) rfl rfl rfl ?_
  exact w_X4_weightOf_4 B hS FU s (some this) p0 (0 : Int32) (0 : Int32) h
set_option maxHeartbeats 4000000 in
theorem cw_X4_weightOf {X : CX} {fr lo : Nat} (h1 : Nat.ble (0 + 1) fr = true) (h2 : Nat.ble (23 + 0) lo = true) : CW X fr lo yX4_weightOf cX4_weightOf 4 (some .int) 0 0 1 := ⟨q1280, q135, ⟨by decide +kernel, by decide +kernel, by decide +kernel⟩, Nat.le_of_ble_eq_true h1, Nat.le_of_ble_eq_true h2⟩

set_option maxHeartbeats 4000000 in
noncomputable def F_X0_common_6 : Nat → St → Int64 → Int64 → Option (Int64 × St)
  | 0 => fun _ _ _ => none
  | n + 1 => fun s x4 x6 => if x6 = (0 : Int64) then (some (x4, s)) else (gd (nzl x6) <| F_X0_common_6  n s x6 (x4 - x4 / x6 * x6))
set_option maxHeartbeats 4000000 in
theorem w_X0_common_6 {X : CX} {E : EV} {a0 s' : St} {r : Int64} (B : FX X E cX0_common 10 (some .long) "RoseThrow" "common" (sn a0) (ss a0) 0 0) (hS : ∀ σ, eSk E σ ↔ SkC σ) : ∀ (n : Nat) (s : St) (x4 : Int64) (x6 : Int64), F_X0_common_6   n s x4 x6 = some (r, s') → J X E (sn a0) (ss a0) 10 (QR X E a0 (some (vl r)) s') s 6 [(4, vl x4), (6, vl x6)] [] := by
  intro n
  induction n with
  | zero => intro s x4 x6 h; exact absurd (show (none : Option (Int64 × St)) = _ from h) (by simp)
  | succ n ih =>
    intro s x4 x6 h
    rw [F_X0_common_6] at h
    refine r_lload (j := 1) B dX0_common_6 rfl ?_
    refine r_lconst (v := 0) B dX0_common_8 (by decide) ?_
    refine r_lcmp B dX0_common_9 ?_
    refine r_if_eq (tgt := 31) B dX0_common_10 (by decide) (fun cn1 => ?_) (fun cn1 => ?_)
    · have h := ot (lc_eq.mp cn1) h
      refine r_lload (j := 0) B dX0_common_31 rfl ?_
      exact r_lret B dX0_common_33 h
    · have h := of (fun z => cn1 (lc_eq.mpr z)) h
      refine r_lload (j := 0) B dX0_common_13 rfl ?_
      refine r_lload (j := 1) B dX0_common_15 rfl ?_
      obtain ⟨hg2, h⟩ := gd_e h
      refine r_lrem B dX0_common_17 (nzl_e hg2) ?_
      refine r_lstore (L' := [(4, vl x4), (6, vl x6), (8, vl (x4 - x4 / x6 * x6))]) B dX0_common_18 (by decide) rfl rfl rfl ?_
      refine r_lload (j := 1) B dX0_common_20 rfl ?_
      refine r_lstore (L' := [(4, vl x6), (6, vl x6), (8, vl (x4 - x4 / x6 * x6))]) B dX0_common_22 (by decide) rfl rfl rfl ?_
      refine r_lload (j := 2) B dX0_common_24 rfl ?_
      refine r_lstore (L' := [(4, vl x6), (6, vl (x4 - x4 / x6 * x6)), (8, vl (x4 - x4 / x6 * x6))]) B dX0_common_26 (by decide) rfl rfl rfl ?_
      refine r_goto (tgt := 6) B dX0_common_28 (by decide) ?_
      refine r_pick [0, 1] (L' := [(4, vl x6), (6, vl (x4 - x4 / x6 * x6))]) rfl ?_
      exact ih s x6 (x4 - x4 / x6 * x6) h
set_option maxHeartbeats 4000000 in
noncomputable def F_X0_common (s : St) (p0 : Int64) (p1 : Int64) : Option (Int64 × St) := F_X0_common_6 FU s p0 p1
set_option maxHeartbeats 4000000 in
theorem c_X0_common {l : Launch} {E : EV} (hE : GE E) (hS : ∀ σ, eSk E σ ↔ SkC σ) {s s' : St} {r : Int64} {p0 : Int64} {p1 : Int64} (h : F_X0_common  s p0 p1 = some (r, s')) : CT l E yX0_common cX0_common 10 (some .long) 0 0 [vl p0, vl p1] s (some (vl r)) s' := by
  refine CT.start hE (by decide) rfl [(0, vl p0), (2, vl p1)] rfl (fun X hX B => ?_)
  skip
  have B : FX X E cX0_common 10 (some .long) "RoseThrow" "common" (sn s) (ss s) 0 0 := B
  unfold F_X0_common at h
  refine r_lload_n (j := 0) B dX0_common_0 rfl rfl ?_
  refine r_lstore (L' := [(0, vl p0), (2, vl p1), (4, vl p0)]) B dX0_common_1 (by decide) rfl rfl rfl ?_
  refine r_lload_n (j := 1) B dX0_common_3 rfl rfl ?_
  refine r_lstore (L' := [(0, vl p0), (2, vl p1), (4, vl p0), (6, vl p1)]) B dX0_common_4 (by decide) rfl rfl rfl ?_
  refine r_pick [2, 3] (L' := [(4, vl p0), (6, vl p1)]) rfl ?_
  exact w_X0_common_6 B hS FU s p0 p1 h
set_option maxHeartbeats 4000000 in
theorem cw_X0_common {X : CX} {fr lo : Nat} (h1 : Nat.ble (0 + 1) fr = true) (h2 : Nat.ble (29 + 0) lo = true) : CW X fr lo yX0_common cX0_common 10 (some .long) 0 0 2 := ⟨q1286, q126, ⟨by decide +kernel, by decide +kernel, by decide +kernel⟩, Nat.le_of_ble_eq_true h1, Nat.le_of_ble_eq_true h2⟩

set_option maxHeartbeats 4000000 in
noncomputable def F_X0_tells_10 (s : St) (x0 : Int64) (x2 : Int64) (z0 : Int64) : Option (Int64 × St) := bnd (F_X0_common s x0 x2) fun r1 s2 => gd (nzl r1) <| some ((z0 / r1), s2)
set_option maxHeartbeats 4000000 in
theorem w_X0_tells_10 {X : CX} {E : EV} {a0 s' : St} {r : Int64} (B : FX X E cX0_tells 5 (some .long) "RoseThrow" "tells" (sn a0) (ss a0) 1 29) (hS : ∀ σ, eSk E σ ↔ SkC σ) (s : St) (x0 : Int64) (x2 : Int64) (z0 : Int64) (h : F_X0_tells_10   s x0 x2 z0 = some (r, s')) : J X E (sn a0) (ss a0) 5 (QR X E a0 (some (vl r)) s') s 10 [(0, vl x0), (2, vl x2)] [vl z0] := by
  unfold F_X0_tells_10 at h
  refine r_lload_n (j := 0) B dX0_tells_10 rfl rfl ?_
  refine r_lload_n (j := 1) B dX0_tells_11 rfl rfl ?_
  obtain ⟨r1, s2, hc3, h⟩ := bnd_e h
  refine r_callSv (As := [vl x0, vl x2]) (rest := [vl z0]) B rfl EX.same (c_X0_common B.ge hS hc3) (cw_X0_common rfl rfl) q1284 q1285 rfl dX0_tells_12 ?_
  obtain ⟨hg4, h⟩ := gd_e h
  refine r_ldiv B dX0_tells_15 (nzl_e hg4) ?_
  exact r_lret B dX0_tells_16 h
set_option maxHeartbeats 4000000 in
noncomputable def F_X0_tells (s : St) (p0 : Int64) (p1 : Int64) (p2 : Int32) : Option (Int64 × St) := if p2 = 0 then (F_X0_tells_10 s p0 p1 p1) else (F_X0_tells_10 s p0 p1 p0)
set_option maxHeartbeats 4000000 in
theorem c_X0_tells {l : Launch} {E : EV} (hE : GE E) (hS : ∀ σ, eSk E σ ↔ SkC σ) {s s' : St} {r : Int64} {p0 : Int64} {p1 : Int64} {p2 : Int32} (h : F_X0_tells  s p0 p1 p2 = some (r, s')) : CT l E yX0_tells cX0_tells 5 (some .long) 1 29 [vl p0, vl p1, vi p2] s (some (vl r)) s' := by
  refine CT.start hE (by decide) rfl [(0, vl p0), (2, vl p1), (4, vi p2)] rfl (fun X hX B => ?_)
  skip
  have B : FX X E cX0_tells 5 (some .long) "RoseThrow" "tells" (sn s) (ss s) 1 29 := B
  unfold F_X0_tells at h
  refine r_iload (j := 2) B dX0_tells_0 rfl ?_
  refine r_if_eq (tgt := 9) B dX0_tells_2 (by decide) (fun cn1 => ?_) (fun cn1 => ?_)
  · have h := ot cn1 h
    refine r_lload_n (j := 1) B dX0_tells_9 rfl rfl ?_
    refine r_pick [0, 1] (L' := [(0, vl p0), (2, vl p1)]) rfl ?_
    exact w_X0_tells_10 B hS s p0 p1 p1 h
  · have h := of cn1 h
    refine r_lload_n (j := 0) B dX0_tells_5 rfl rfl ?_
    refine r_goto (tgt := 10) B dX0_tells_6 (by decide) ?_
    refine r_pick [0, 1] (L' := [(0, vl p0), (2, vl p1)]) rfl ?_
    exact w_X0_tells_10 B hS s p0 p1 p0 h
set_option maxHeartbeats 4000000 in
theorem cw_X0_tells {X : CX} {fr lo : Nat} (h1 : Nat.ble (1 + 1) fr = true) (h2 : Nat.ble (24 + 29) lo = true) : CW X fr lo yX0_tells cX0_tells 5 (some .long) 1 29 3 := ⟨q1283, q126, ⟨by decide +kernel, by decide +kernel, by decide +kernel⟩, Nat.le_of_ble_eq_true h1, Nat.le_of_ble_eq_true h2⟩

set_option maxHeartbeats 4000000 in
noncomputable def F_X0_comes_53 (s : St) (z0 : Int32) (z1 : Int64) (z2 : Int64) : Option (Int32 × St) := bnd (F_X0_tells s z2 z1 z0) fun r1 s2 => some (((r1).toInt32), s2)
set_option maxHeartbeats 4000000 in
theorem w_X0_comes_53 {X : CX} {E : EV} {a0 s' : St} {r : Int32} (B : FX X E cX0_comes 3 (some .int) "RoseThrow" "comes" (sn a0) (ss a0) 246 13745) (hS : ∀ σ, eSk E σ ↔ SkC σ) (s : St) (z0 : Int32) (z1 : Int64) (z2 : Int64) (h : F_X0_comes_53   s z0 z1 z2 = some (r, s')) : J X E (sn a0) (ss a0) 3 (QR X E a0 (some (vi r)) s') s 53 [] [vi z0, vl z1, vl z2] := by
  unfold F_X0_comes_53 at h
  obtain ⟨r1, s2, hc3, h⟩ := bnd_e h
  refine r_callSv (As := [vl z2, vl z1, vi z0]) (rest := []) B rfl EX.same (c_X0_tells B.ge hS hc3) (cw_X0_tells rfl rfl) q1281 q1282 rfl dX0_comes_53 ?_
  refine r_l2i B dX0_comes_56 ?_
  exact r_iret B dX0_comes_57 h
set_option maxHeartbeats 4000000 in
noncomputable def F_X0_comes_12 (s : St) (x1 : Int32) (x2 : Int32) : Option (Int32 × St) := bnd (F_X0_in s x2 (0 : Int32) (1 : Int32)) fun r1 s2 => if r1 = 0 then (some ((-1 : Int32), s2)) else (bnd (F_X0_looks s2) fun _ s6 => bnd (F_X4_weightOf s6 23 x1) fun r8 s9 => if x2 = 0 then (F_X0_comes_53 s9 (1 : Int32) (((si s9 23 3)).toInt64) ((r8).toInt64)) else (F_X0_comes_53 s9 (0 : Int32) (((si s9 23 3)).toInt64) ((r8).toInt64)))
set_option maxHeartbeats 4000000 in
theorem w_X0_comes_12 {X : CX} {E : EV} {a0 s' : St} {r : Int32} (B : FX X E cX0_comes 3 (some .int) "RoseThrow" "comes" (sn a0) (ss a0) 246 13745) (hS : ∀ σ, eSk E σ ↔ SkC σ) (s : St) (x1 : Int32) (x2 : Int32) (h : F_X0_comes_12   s x1 x2 = some (r, s')) : J X E (sn a0) (ss a0) 3 (QR X E a0 (some (vi r)) s') s 12 [(0, vr (some 0)), (1, vi x1), (2, vi x2)] [] := by
  unfold F_X0_comes_12 at h
  refine r_iload_n (j := 2) B dX0_comes_12 rfl rfl ?_
  refine r_iconst (v := 0) B dX0_comes_13 (by decide) ?_
  refine r_iconst (v := 1) B dX0_comes_14 (by decide) ?_
  obtain ⟨r1, s2, hc3, h⟩ := bnd_e h
  refine r_callSv (As := [vi x2, vi (0 : Int32), vi (1 : Int32)]) (rest := []) B rfl EX.same (c_X0_in B.ge hS hc3) (cw_X0_in rfl rfl) q445 q446 rfl dX0_comes_15 ?_
  refine r_if_ne (tgt := 23) B dX0_comes_18 (by decide) (fun cn4 => ?_) (fun cn4 => ?_)
  · have h := of cn4 h
    refine r_aload_n (j := 0) B dX0_comes_23 rfl rfl ?_
    obtain ⟨r5, s6, hc7, h⟩ := bnd_e h
    refine r_callV0 (As := []) (rest := []) B rfl rfl EX.same (c_X0_looks B.ge hS hc7) (cw_X0_looks rfl rfl) (fun z => RV.of 0 (by rw [((hS _).1 z).1 0 (by decide)]; rfl) rfl rfl qs26) q1253 q1255 rfl dX0_comes_24 ?_
    refine r_aload_n (j := 0) B dX0_comes_27 rfl rfl ?_
    refine g0 (k := 17) B (vr (some 23)) rfl (fun z => by rw [((hS _).1 z).1 0 (by decide)]; rfl) rfl q373 rfl (fun z => by rw [((hS _).1 z).2 _ (List.mem_of_getElem? (i := 11) rfl)]; rfl) dX0_comes_28 ?_
    refine r_iload_n (j := 1) B dX0_comes_31 rfl rfl ?_
    obtain ⟨r8, s9, hc10, h⟩ := bnd_e h
    refine r_callVv (As := [vi x1]) (rest := []) B rfl rfl EX.same (c_X4_weightOf B.ge hS hc10) (cw_X4_weightOf rfl rfl) (fun z => RV.of 4 ((fun z => by rw [((hS _).1 z).1 23 (by decide)]; rfl) z) rfl rfl q1279) q1277 q1278 rfl dX0_comes_32 ?_
    refine r_i2l B dX0_comes_35 ?_
    refine r_aload_n (j := 0) B dX0_comes_36 rfl rfl ?_
    refine g0 (k := 17) B (vr (some 23)) rfl (fun z => by rw [((hS _).1 z).1 0 (by decide)]; rfl) rfl q373 rfl (fun z => by rw [((hS _).1 z).2 _ (List.mem_of_getElem? (i := 11) rfl)]; rfl) dX0_comes_37 ?_
    refine g4N (k := 3) B (vi (si s9 23 3)) rfl (fun z => by rw [((hS _).1 z).1 23 (by decide)]; rfl) rfl (lw_n q342 rfl) rfl (fun _ => rfl) dX0_comes_40 ?_
    refine r_i2l B dX0_comes_43 ?_
    refine r_iload_n (j := 2) B dX0_comes_44 rfl rfl ?_
    refine r_if_ne (tgt := 52) B dX0_comes_45 (by decide) (fun cn11 => ?_) (fun cn11 => ?_)
    · have h := of cn11 h
      refine r_iconst (v := 0) B dX0_comes_52 (by decide) ?_
      refine r_pick [] (L' := []) rfl ?_
      exact w_X0_comes_53 B hS s9 (0 : Int32) (((si s9 23 3)).toInt64) ((r8).toInt64) h
    · have h := ot cn11 h
      refine r_iconst (v := 1) B dX0_comes_48 (by decide) ?_
      refine r_goto (tgt := 53) B dX0_comes_49 (by decide) ?_
      refine r_pick [] (L' := []) rfl ?_
      exact w_X0_comes_53 B hS s9 (1 : Int32) (((si s9 23 3)).toInt64) ((r8).toInt64) h
  · have h := ot cn4 h
    refine r_iconst (v := -1) B dX0_comes_21 (by decide) ?_
    exact r_iret B dX0_comes_22 h
set_option maxHeartbeats 4000000 in
noncomputable def F_X0_comes (s : St) (p0 : Int32) (p1 : Int32) : Option (Int32 × St) := if p0 = (-1 : Int32) then (F_X0_comes_12 s p0 p1) else (bnd (F_X0_isCell s p0) fun r2 s3 => if r2 = 0 then (some ((-1 : Int32), s3)) else (F_X0_comes_12 s3 p0 p1))
set_option maxHeartbeats 4000000 in
theorem c_X0_comes {l : Launch} {E : EV} (hE : GE E) (hS : ∀ σ, eSk E σ ↔ SkC σ) {s s' : St} {r : Int32} {p0 : Int32} {p1 : Int32} (h : F_X0_comes  s p0 p1 = some (r, s')) : CT l E yX0_comes cX0_comes 3 (some .int) 246 13745 [vr (some 0), vi p0, vi p1] s (some (vi r)) s' := by
  refine CT.start hE (by decide) rfl [(0, vr (some 0)), (1, vi p0), (2, vi p1)] rfl (fun X hX B => ?_)
  skip
  have B : FX X E cX0_comes 3 (some .int) "RoseThrow" "comes" (sn s) (ss s) 246 13745 := B
  unfold F_X0_comes at h
  refine r_iload_n (j := 1) B dX0_comes_0 rfl rfl ?_
  refine r_iconst (v := -1) B dX0_comes_1 (by decide) ?_
  refine r_ic_eq (tgt := 12) B dX0_comes_2 (by decide) (fun cn1 => ?_) (fun cn1 => ?_)
  · have h := ot cn1 h
    exact w_X0_comes_12 B hS s p0 p1 h
  · have h := of cn1 h
    refine r_iload_n (j := 1) B dX0_comes_5 rfl rfl ?_
    obtain ⟨r2, s3, hc4, h⟩ := bnd_e h
    refine r_callSv (As := [vi p0]) (rest := []) B rfl EX.same (c_X0_isCell B.ge hS hc4) (cw_X0_isCell rfl rfl) q553 q554 rfl dX0_comes_6 ?_
    refine r_if_eq (tgt := 21) B dX0_comes_9 (by decide) (fun cn5 => ?_) (fun cn5 => ?_)
    · have h := ot cn5 h
      refine r_iconst (v := -1) B dX0_comes_21 (by decide) ?_
      exact r_iret B dX0_comes_22 h
    · have h := of cn5 h
      exact w_X0_comes_12 B hS s3 p0 p1 h
set_option maxHeartbeats 4000000 in
theorem cw_X0_comes {X : CX} {fr lo : Nat} (h1 : Nat.ble (246 + 1) fr = true) (h2 : Nat.ble (22 + 13745) lo = true) : CW X fr lo yX0_comes cX0_comes 3 (some .int) 246 13745 2 := ⟨q1252, q126, ⟨by decide +kernel, by decide +kernel, by decide +kernel⟩, Nat.le_of_ble_eq_true h1, Nat.le_of_ble_eq_true h2⟩

set_option maxHeartbeats 4000000 in
noncomputable def F_X0_far (s : St) (p0 : Int32) (p1 : Int32) : Option (Int32 × St) := some (((if 0 ≤ ((p0 - p0 / (6 : Int32) * (6 : Int32)) - (p1 - p1 / (6 : Int32) * (6 : Int32))) then ((p0 - p0 / (6 : Int32) * (6 : Int32)) - (p1 - p1 / (6 : Int32) * (6 : Int32))) else 0 - ((p0 - p0 / (6 : Int32) * (6 : Int32)) - (p1 - p1 / (6 : Int32) * (6 : Int32)))) + (if 0 ≤ ((p0 / (6 : Int32)) - (p1 / (6 : Int32))) then ((p0 / (6 : Int32)) - (p1 / (6 : Int32))) else 0 - ((p0 / (6 : Int32)) - (p1 / (6 : Int32))))), s)
set_option maxHeartbeats 4000000 in
theorem c_X0_far {l : Launch} {E : EV} (hE : GE E) (hS : ∀ σ, eSk E σ ↔ SkC σ) {s s' : St} {r : Int32} {p0 : Int32} {p1 : Int32} (h : F_X0_far  s p0 p1 = some (r, s')) : CT l E yX0_far cX0_far 2 (some .int) 1 60 [vi p0, vi p1] s (some (vi r)) s' := by
  refine CT.start hE (by decide) rfl [(0, vi p0), (1, vi p1)] rfl (fun X hX B => ?_)
  skip
  have B : FX X E cX0_far 2 (some .int) "RoseThrow" "far" (sn s) (ss s) 1 60 := B
  unfold F_X0_far at h
  refine r_iload_n (j := 0) B dX0_far_0 rfl rfl ?_
  refine r_bipush (v := 6) B dX0_far_1 (by decide) ?_
  refine r_irem B dX0_far_3 (by decide) ?_
  refine r_iload_n (j := 1) B dX0_far_4 rfl rfl ?_
  refine r_bipush (v := 6) B dX0_far_5 (by decide) ?_
  refine r_irem B dX0_far_7 (by decide) ?_
  refine r_isub B dX0_far_8 ?_
  refine r_mabs B q1306 q1307 q155 q1308 (by decide) (by decide) rfl dX0_far_9 ?_
  refine r_iload_n (j := 0) B dX0_far_12 rfl rfl ?_
  refine r_bipush (v := 6) B dX0_far_13 (by decide) ?_
  refine r_idiv B dX0_far_15 (by decide) ?_
  refine r_iload_n (j := 1) B dX0_far_16 rfl rfl ?_
  refine r_bipush (v := 6) B dX0_far_17 (by decide) ?_
  refine r_idiv B dX0_far_19 (by decide) ?_
  refine r_isub B dX0_far_20 ?_
  refine r_mabs B q1306 q1307 q155 q1308 (by decide) (by decide) rfl dX0_far_21 ?_
  refine r_iadd B dX0_far_24 ?_
  exact r_iret B dX0_far_25 h
set_option maxHeartbeats 4000000 in
theorem cw_X0_far {X : CX} {fr lo : Nat} (h1 : Nat.ble (1 + 1) fr = true) (h2 : Nat.ble (21 + 60) lo = true) : CW X fr lo yX0_far cX0_far 2 (some .int) 1 60 2 := ⟨q1305, q126, ⟨by decide +kernel, by decide +kernel, by decide +kernel⟩, Nat.le_of_ble_eq_true h1, Nat.le_of_ble_eq_true h2⟩

set_option maxHeartbeats 4000000 in
noncomputable def F_X0_gripsOf (s : St) (p0 : Int32) (p1 : Int32) (p2 : Int32) : Option (Int32 × St) := bnd (F_X0_far s p1 p2) fun r1 s2 => gd (inb p0 6) <| if (si s2 5 p0.toNatClampNeg) ≤ 0 then (some ((-1 : Int32), s2)) else (gd (inb p0 6) <| if (si s2 4 p0.toNatClampNeg) < r1 then (some ((-1 : Int32), s2)) else (gd (inb (((11 : Int32) * p0) + r1) 66) <| some ((si s2 27 (((11 : Int32) * p0) + r1).toNatClampNeg), s2)))
set_option maxHeartbeats 4000000 in
theorem c_X0_gripsOf {l : Launch} {E : EV} (hE : GE E) (hS : ∀ σ, eSk E σ ↔ SkC σ) {s s' : St} {r : Int32} {p0 : Int32} {p1 : Int32} {p2 : Int32} (h : F_X0_gripsOf  s p0 p1 p2 = some (r, s')) : CT l E yX0_gripsOf cX0_gripsOf 5 (some .int) 2 81 [vr (some 0), vi p0, vi p1, vi p2] s (some (vi r)) s' := by
  refine CT.start hE (by decide) rfl [(0, vr (some 0)), (1, vi p0), (2, vi p1), (3, vi p2)] rfl (fun X hX B => ?_)
  skip
  have B : FX X E cX0_gripsOf 5 (some .int) "RoseThrow" "gripsOf" (sn s) (ss s) 2 81 := B
  unfold F_X0_gripsOf at h
  refine r_iload_n (j := 2) B dX0_gripsOf_0 rfl rfl ?_
  refine r_iload_n (j := 3) B dX0_gripsOf_1 rfl rfl ?_
  obtain ⟨r1, s2, hc3, h⟩ := bnd_e h
  refine r_callSv (As := [vi p1, vi p2]) (rest := []) B rfl EX.same (c_X0_far B.ge hS hc3) (cw_X0_far rfl rfl) q1303 q1304 rfl dX0_gripsOf_2 ?_
  refine r_istore (L' := [(0, vr (some 0)), (1, vi p0), (2, vi p1), (3, vi p2), (4, vi r1)]) B dX0_gripsOf_5 (by decide) rfl rfl rfl ?_
  refine r_aload_n (j := 0) B dX0_gripsOf_7 rfl rfl ?_
  refine g0 (k := 2) B (vr (some 2)) rfl (fun z => by rw [((hS _).1 z).1 0 (by decide)]; rfl) rfl q358 rfl (fun z => by rw [((hS _).1 z).2 _ (List.mem_of_getElem? (i := 1) rfl)]; rfl) dX0_gripsOf_8 ?_
  refine g1N (k := 2) B (vr (some 5)) rfl (fun z => by rw [((hS _).1 z).1 2 (by decide)]; rfl) rfl (lw_n q210 rfl) rfl (fun z => by rw [((hS _).1 z).2 _ (List.mem_of_getElem? (i := 19) rfl)]; rfl) dX0_gripsOf_11 ?_
  refine r_iload_n (j := 1) B dX0_gripsOf_14 rfl rfl ?_
  obtain ⟨hg4, h⟩ := gd_e h
  refine r_iald B rfl (fun z => ((hS _).1 z).1 5 (by decide)) hg4 dX0_gripsOf_15 ?_
  refine r_if_le (tgt := 48) B dX0_gripsOf_16 (by decide) (fun cn5 => ?_) (fun cn5 => ?_)
  · have h := ot cn5 h
    refine r_iconst (v := -1) B dX0_gripsOf_48 (by decide) ?_
    exact r_iret B dX0_gripsOf_49 h
  · have h := of cn5 h
    refine r_iload (j := 4) B dX0_gripsOf_19 rfl ?_
    refine r_aload_n (j := 0) B dX0_gripsOf_21 rfl rfl ?_
    refine g0 (k := 2) B (vr (some 2)) rfl (fun z => by rw [((hS _).1 z).1 0 (by decide)]; rfl) rfl q358 rfl (fun z => by rw [((hS _).1 z).2 _ (List.mem_of_getElem? (i := 1) rfl)]; rfl) dX0_gripsOf_22 ?_
    refine g1N (k := 1) B (vr (some 4)) rfl (fun z => by rw [((hS _).1 z).1 2 (by decide)]; rfl) rfl (lw_n q208 rfl) rfl (fun z => by rw [((hS _).1 z).2 _ (List.mem_of_getElem? (i := 18) rfl)]; rfl) dX0_gripsOf_25 ?_
    refine r_iload_n (j := 1) B dX0_gripsOf_28 rfl rfl ?_
    obtain ⟨hg6, h⟩ := gd_e h
    refine r_iald B rfl (fun z => ((hS _).1 z).1 4 (by decide)) hg6 dX0_gripsOf_29 ?_
    refine r_ic_gt (tgt := 48) B dX0_gripsOf_30 (by decide) (fun cn7 => ?_) (fun cn7 => ?_)
    · have h := ot cn7 h
      refine r_iconst (v := -1) B dX0_gripsOf_48 (by decide) ?_
      exact r_iret B dX0_gripsOf_49 h
    · have h := of cn7 h
      refine r_aload_n (j := 0) B dX0_gripsOf_33 rfl rfl ?_
      refine g0 (k := 19) B (vr (some 27)) rfl (fun z => by rw [((hS _).1 z).1 0 (by decide)]; rfl) rfl q375 rfl (fun z => by rw [((hS _).1 z).2 _ (List.mem_of_getElem? (i := 13) rfl)]; rfl) dX0_gripsOf_34 ?_
      refine r_bipush (v := 11) B dX0_gripsOf_37 (by decide) ?_
      refine r_iload_n (j := 1) B dX0_gripsOf_39 rfl rfl ?_
      refine r_imul B dX0_gripsOf_40 ?_
      refine r_iload (j := 4) B dX0_gripsOf_41 rfl ?_
      refine r_iadd B dX0_gripsOf_43 ?_
      obtain ⟨hg8, h⟩ := gd_e h
      refine r_iald B rfl (fun z => ((hS _).1 z).1 27 (by decide)) hg8 dX0_gripsOf_44 ?_
      refine r_goto (tgt := 49) B dX0_gripsOf_45 (by decide) ?_
      exact r_iret B dX0_gripsOf_49 h
set_option maxHeartbeats 4000000 in
theorem cw_X0_gripsOf {X : CX} {fr lo : Nat} (h1 : Nat.ble (2 + 1) fr = true) (h2 : Nat.ble (24 + 81) lo = true) : CW X fr lo yX0_gripsOf cX0_gripsOf 5 (some .int) 2 81 3 := ⟨q1302, q126, ⟨by decide +kernel, by decide +kernel, by decide +kernel⟩, Nat.le_of_ble_eq_true h1, Nat.le_of_ble_eq_true h2⟩

set_option maxHeartbeats 4000000 in
noncomputable def F_X0_partOf_81 (k29 : St → Int32 → Option Nat → Int32 → Int32 → Int32 → Int32 → Int32 → Option (Int32 × St)) (s : St) (x1 : Int32) (x2 : Option Nat) (x3 : Int32) (x5 : Int32) (x6 : Int32) (x7 : Int32) (x8 : Int32) : Option (Int32 × St) := k29 s x1 x2 x3 x8 (x5 + (1)) x6 (x7 + (1))
set_option maxHeartbeats 4000000 in
theorem w_X0_partOf_81 {X : CX} {E : EV} {a0 s' : St} {r : Int32} (B : FX X E cX0_partOf 9 (some .int) "RoseThrow" "partOf" (sn a0) (ss a0) 3 105) (hS : ∀ σ, eSk E σ ↔ SkC σ) (k29 : St → Int32 → Option Nat → Int32 → Int32 → Int32 → Int32 → Int32 → Option (Int32 × St)) (hk29 : ∀ (s : St) (x1 : Int32) (x2 : Option Nat) (x3 : Int32) (x4 : Int32) (x5 : Int32) (x6 : Int32) (x7 : Int32), k29 s x1 x2 x3 x4 x5 x6 x7 = some (r, s') → J X E (sn a0) (ss a0) 9 (QR X E a0 (some (vi r)) s') s 29 [(0, vr (some 0)), (1, vi x1), (2, vr x2), (3, vi x3), (4, vi x4), (5, vi x5), (6, vi x6), (7, vi x7)] []) (s : St) (x1 : Int32) (x2 : Option Nat) (x3 : Int32) (x5 : Int32) (x6 : Int32) (x7 : Int32) (x8 : Int32) (h : F_X0_partOf_81  k29 s x1 x2 x3 x5 x6 x7 x8 = some (r, s')) : J X E (sn a0) (ss a0) 9 (QR X E a0 (some (vi r)) s') s 81 [(0, vr (some 0)), (1, vi x1), (2, vr x2), (3, vi x3), (5, vi x5), (6, vi x6), (7, vi x7), (8, vi x8)] [] := by
  unfold F_X0_partOf_81 at h
  refine r_iload (j := 7) B dX0_partOf_81 rfl ?_
  refine r_istore (L' := [(0, vr (some 0)), (1, vi x1), (2, vr x2), (3, vi x3), (4, vi x8), (5, vi x5), (6, vi x6), (7, vi x7), (8, vi x8)]) B dX0_partOf_83 (by decide) rfl rfl rfl ?_
  refine r_iinc (j := 5) (v := (x5 + (1))) (L' := [(0, vr (some 0)), (1, vi x1), (2, vr x2), (3, vi x3), (4, vi x8), (5, vi (x5 + (1))), (6, vi x6), (7, vi x7), (8, vi x8)]) B dX0_partOf_85 rfl rfl (by decide) rfl rfl rfl ?_
  refine r_iinc (j := 7) (v := (x7 + (1))) (L' := [(0, vr (some 0)), (1, vi x1), (2, vr x2), (3, vi x3), (4, vi x8), (5, vi (x5 + (1))), (6, vi x6), (7, vi (x7 + (1))), (8, vi x8)]) B dX0_partOf_88 rfl rfl (by decide) rfl rfl rfl ?_
  refine r_goto (tgt := 29) B dX0_partOf_91 (by decide) ?_
  refine r_pick [0, 1, 2, 3, 4, 5, 6, 7] (L' := [(0, vr (some 0)), (1, vi x1), (2, vr x2), (3, vi x3), (4, vi x8), (5, vi (x5 + (1))), (6, vi x6), (7, vi (x7 + (1)))]) rfl ?_
  exact hk29 s x1 x2 x3 x8 (x5 + (1)) x6 (x7 + (1)) h
set_option maxHeartbeats 4000000 in
noncomputable def F_X0_partOf_131 (s : St) (x1 : Int32) (x7 : Int32) : Option (Int32 × St) := if x1 = (-1 : Int32) then (if x7 = 0 then (some ((0 : Int32), s)) else (some ((60 : Int32), s))) else (some ((0 : Int32), s))
set_option maxHeartbeats 4000000 in
theorem w_X0_partOf_131 {X : CX} {E : EV} {a0 s' : St} {r : Int32} (B : FX X E cX0_partOf 9 (some .int) "RoseThrow" "partOf" (sn a0) (ss a0) 3 105) (hS : ∀ σ, eSk E σ ↔ SkC σ) (s : St) (x1 : Int32) (x7 : Int32) (h : F_X0_partOf_131   s x1 x7 = some (r, s')) : J X E (sn a0) (ss a0) 9 (QR X E a0 (some (vi r)) s') s 131 [(1, vi x1), (7, vi x7)] [] := by
  unfold F_X0_partOf_131 at h
  refine r_iload_n (j := 0) B dX0_partOf_131 rfl rfl ?_
  refine r_iconst (v := -1) B dX0_partOf_132 (by decide) ?_
  refine r_ic_ne (tgt := 146) B dX0_partOf_133 (by decide) (fun cn1 => ?_) (fun cn1 => ?_)
  · have h := of cn1 h
    refine r_iconst (v := 0) B dX0_partOf_146 (by decide) ?_
    exact r_iret B dX0_partOf_147 h
  · have h := ot cn1 h
    refine r_iload (j := 1) B dX0_partOf_136 rfl ?_
    refine r_if_eq (tgt := 146) B dX0_partOf_138 (by decide) (fun cn2 => ?_) (fun cn2 => ?_)
    · have h := ot cn2 h
      refine r_iconst (v := 0) B dX0_partOf_146 (by decide) ?_
      exact r_iret B dX0_partOf_147 h
    · have h := of cn2 h
      refine r_bipush (v := 60) B dX0_partOf_141 (by decide) ?_
      refine r_goto (tgt := 147) B dX0_partOf_143 (by decide) ?_
      exact r_iret B dX0_partOf_147 h
set_option maxHeartbeats 4000000 in
noncomputable def F_X0_partOf_163 (s : St) (x1 : Int32) (x6 : Int32) : Option (Int32 × St) := if x1 = x6 then (some ((60 : Int32), s)) else (some ((0 : Int32), s))
set_option maxHeartbeats 4000000 in
theorem w_X0_partOf_163 {X : CX} {E : EV} {a0 s' : St} {r : Int32} (B : FX X E cX0_partOf 9 (some .int) "RoseThrow" "partOf" (sn a0) (ss a0) 3 105) (hS : ∀ σ, eSk E σ ↔ SkC σ) (s : St) (x1 : Int32) (x6 : Int32) (h : F_X0_partOf_163   s x1 x6 = some (r, s')) : J X E (sn a0) (ss a0) 9 (QR X E a0 (some (vi r)) s') s 163 [(1, vi x1), (6, vi x6)] [] := by
  unfold F_X0_partOf_163 at h
  refine r_iload_n (j := 0) B dX0_partOf_163 rfl rfl ?_
  refine r_iload (j := 1) B dX0_partOf_164 rfl ?_
  refine r_ic_ne (tgt := 174) B dX0_partOf_166 (by decide) (fun cn1 => ?_) (fun cn1 => ?_)
  · have h := of cn1 h
    refine r_iconst (v := 0) B dX0_partOf_174 (by decide) ?_
    exact r_iret B dX0_partOf_175 h
  · have h := ot cn1 h
    refine r_bipush (v := 60) B dX0_partOf_169 (by decide) ?_
    refine r_goto (tgt := 175) B dX0_partOf_171 (by decide) ?_
    exact r_iret B dX0_partOf_175 h
set_option maxHeartbeats 4000000 in
noncomputable def F_X0_partOf_119 (s : St) (x1 : Int32) (x2 : Option Nat) (x3 : Int32) (x4 : Int32) (x5 : Int32) (x6 : Int32) (z0 : Int32) : Option (Int32 × St) := if x1 = (-1 : Int32) then (F_X0_partOf_131 s x1 z0) else (if z0 = 0 then (if x5 = (1 : Int32) then (F_X0_partOf_163 s x1 x6) else (bnd (F_X0_term s (5 : Int32)) fun r4 s5 => if r4 = (1 : Int32) then (F_X0_partOf_163 s5 x1 x6) else (drf x2 fun a8 => gd (isK s5 a8 100) <| gd (inb x1 (sk s5 a8).2) <| bnd (F_X0_gripsOf s5 x1 (si s5 a8 x1.toNatClampNeg) x3) fun r12 s13 => if r12 = x4 then (gd (nzi x5) <| some (((60 : Int32) / x5), s13)) else (some ((0 : Int32), s13))))) else (F_X0_partOf_131 s x1 z0))
set_option maxHeartbeats 4000000 in
theorem w_X0_partOf_119 {X : CX} {E : EV} {a0 s' : St} {r : Int32} (B : FX X E cX0_partOf 9 (some .int) "RoseThrow" "partOf" (sn a0) (ss a0) 3 105) (hS : ∀ σ, eSk E σ ↔ SkC σ) (s : St) (x1 : Int32) (x2 : Option Nat) (x3 : Int32) (x4 : Int32) (x5 : Int32) (x6 : Int32) (z0 : Int32) (h : F_X0_partOf_119   s x1 x2 x3 x4 x5 x6 z0 = some (r, s')) : J X E (sn a0) (ss a0) 9 (QR X E a0 (some (vi r)) s') s 119 [(0, vr (some 0)), (1, vi x1), (2, vr x2), (3, vi x3), (4, vi x4), (5, vi x5), (6, vi x6)] [vi z0] := by
  unfold F_X0_partOf_119 at h
  refine r_istore (L' := [(0, vr (some 0)), (1, vi x1), (2, vr x2), (3, vi x3), (4, vi x4), (5, vi x5), (6, vi x6), (7, vi z0)]) B dX0_partOf_119 (by decide) rfl rfl rfl ?_
  refine r_iload_n (j := 1) B dX0_partOf_121 rfl rfl ?_
  refine r_iconst (v := -1) B dX0_partOf_122 (by decide) ?_
  refine r_ic_eq (tgt := 131) B dX0_partOf_123 (by decide) (fun cn1 => ?_) (fun cn1 => ?_)
  · have h := ot cn1 h
    refine r_pick [1, 7] (L' := [(1, vi x1), (7, vi z0)]) rfl ?_
    exact w_X0_partOf_131 B hS s x1 z0 h
  · have h := of cn1 h
    refine r_iload (j := 7) B dX0_partOf_126 rfl ?_
    refine r_if_eq (tgt := 148) B dX0_partOf_128 (by decide) (fun cn2 => ?_) (fun cn2 => ?_)
    · have h := ot cn2 h
      refine r_iload (j := 5) B dX0_partOf_148 rfl ?_
      refine r_iconst (v := 1) B dX0_partOf_150 (by decide) ?_
      refine r_ic_eq (tgt := 163) B dX0_partOf_151 (by decide) (fun cn3 => ?_) (fun cn3 => ?_)
      · have h := ot cn3 h
        refine r_pick [1, 6] (L' := [(1, vi x1), (6, vi x6)]) rfl ?_
        exact w_X0_partOf_163 B hS s x1 x6 h
      · have h := of cn3 h
        refine r_aload_n (j := 0) B dX0_partOf_154 rfl rfl ?_
        refine r_iconst (v := 5) B dX0_partOf_155 (by decide) ?_
        obtain ⟨r4, s5, hc6, h⟩ := bnd_e h
        refine r_callVv (As := [vi (5 : Int32)]) (rest := []) B rfl rfl EX.same (c_X0_term B.ge hS hc6) (cw_X0_term rfl rfl) (fun z => RV.of 0 (by rw [((hS _).1 z).1 0 (by decide)]; rfl) rfl rfl qs10) q576 q578 rfl dX0_partOf_156 ?_
        refine r_iconst (v := 1) B dX0_partOf_159 (by decide) ?_
        refine r_ic_ne (tgt := 176) B dX0_partOf_160 (by decide) (fun cn7 => ?_) (fun cn7 => ?_)
        · have h := of cn7 h
          refine r_aload_n (j := 0) B dX0_partOf_176 rfl rfl ?_
          refine r_iload_n (j := 1) B dX0_partOf_177 rfl rfl ?_
          refine r_aload_n (j := 2) B dX0_partOf_178 rfl rfl ?_
          refine r_iload_n (j := 1) B dX0_partOf_179 rfl rfl ?_
          obtain ⟨a8, ea9, h⟩ := drf_e h
          obtain ⟨hg10, h⟩ := gd_e h
          obtain ⟨hg11, h⟩ := gd_e h
          refine r_iald B ea9 (fun _ => isK_a hg10) hg11 dX0_partOf_180 ?_
          refine r_iload_n (j := 3) B dX0_partOf_181 rfl rfl ?_
          obtain ⟨r12, s13, hc14, h⟩ := bnd_e h
          refine r_callVv (As := [vi x1, vi (si s5 a8 x1.toNatClampNeg), vi x3]) (rest := []) B rfl rfl EX.same (c_X0_gripsOf B.ge hS hc14) (cw_X0_gripsOf rfl rfl) (fun z => RV.of 0 (by rw [((hS _).1 z).1 0 (by decide)]; rfl) rfl rfl qs32) q1299 q1301 rfl dX0_partOf_182 ?_
          refine r_iload (j := 4) B dX0_partOf_185 rfl ?_
          refine r_ic_ne (tgt := 198) B dX0_partOf_187 (by decide) (fun cn15 => ?_) (fun cn15 => ?_)
          · have h := of cn15 h
            refine r_iconst (v := 0) B dX0_partOf_198 (by decide) ?_
            exact r_iret B dX0_partOf_199 h
          · have h := ot cn15 h
            refine r_bipush (v := 60) B dX0_partOf_190 (by decide) ?_
            refine r_iload (j := 5) B dX0_partOf_192 rfl ?_
            obtain ⟨hg16, h⟩ := gd_e h
            refine r_idiv B dX0_partOf_194 (nzi_e hg16) ?_
            refine r_goto (tgt := 199) B dX0_partOf_195 (by decide) ?_
            exact r_iret B dX0_partOf_199 h
        · have h := ot cn7 h
          refine r_pick [1, 6] (L' := [(1, vi x1), (6, vi x6)]) rfl ?_
          exact w_X0_partOf_163 B hS s5 x1 x6 h
    · have h := of cn2 h
      refine r_pick [1, 7] (L' := [(1, vi x1), (7, vi z0)]) rfl ?_
      exact w_X0_partOf_131 B hS s x1 z0 h
set_option maxHeartbeats 4000000 in
noncomputable def F_X0_partOf_114 (s : St) (x1 : Int32) (x2 : Option Nat) (x3 : Int32) (x4 : Int32) (x5 : Int32) (x6 : Int32) : Option (Int32 × St) := F_X0_partOf_119 s x1 x2 x3 x4 x5 x6 (1 : Int32)
set_option maxHeartbeats 4000000 in
theorem w_X0_partOf_114 {X : CX} {E : EV} {a0 s' : St} {r : Int32} (B : FX X E cX0_partOf 9 (some .int) "RoseThrow" "partOf" (sn a0) (ss a0) 3 105) (hS : ∀ σ, eSk E σ ↔ SkC σ) (s : St) (x1 : Int32) (x2 : Option Nat) (x3 : Int32) (x4 : Int32) (x5 : Int32) (x6 : Int32) (h : F_X0_partOf_114   s x1 x2 x3 x4 x5 x6 = some (r, s')) : J X E (sn a0) (ss a0) 9 (QR X E a0 (some (vi r)) s') s 114 [(0, vr (some 0)), (1, vi x1), (2, vr x2), (3, vi x3), (4, vi x4), (5, vi x5), (6, vi x6)] [] := by
  unfold F_X0_partOf_114 at h
  refine r_iconst (v := 1) B dX0_partOf_114 (by decide) ?_
  refine r_goto (tgt := 119) B dX0_partOf_115 (by decide) ?_
  exact w_X0_partOf_119 B hS s x1 x2 x3 x4 x5 x6 (1 : Int32) h
set_option maxHeartbeats 4000000 in
noncomputable def F_X0_partOf_118 (s : St) (x1 : Int32) (x2 : Option Nat) (x3 : Int32) (x4 : Int32) (x5 : Int32) (x6 : Int32) : Option (Int32 × St) := F_X0_partOf_119 s x1 x2 x3 x4 x5 x6 (0 : Int32)
set_option maxHeartbeats 4000000 in
theorem w_X0_partOf_118 {X : CX} {E : EV} {a0 s' : St} {r : Int32} (B : FX X E cX0_partOf 9 (some .int) "RoseThrow" "partOf" (sn a0) (ss a0) 3 105) (hS : ∀ σ, eSk E σ ↔ SkC σ) (s : St) (x1 : Int32) (x2 : Option Nat) (x3 : Int32) (x4 : Int32) (x5 : Int32) (x6 : Int32) (h : F_X0_partOf_118   s x1 x2 x3 x4 x5 x6 = some (r, s')) : J X E (sn a0) (ss a0) 9 (QR X E a0 (some (vi r)) s') s 118 [(0, vr (some 0)), (1, vi x1), (2, vr x2), (3, vi x3), (4, vi x4), (5, vi x5), (6, vi x6)] [] := by
  unfold F_X0_partOf_118 at h
  refine r_iconst (v := 0) B dX0_partOf_118 (by decide) ?_
  exact w_X0_partOf_119 B hS s x1 x2 x3 x4 x5 x6 (0 : Int32) h
set_option maxHeartbeats 4000000 in
noncomputable def F_X0_partOf_29 : Nat → St → Int32 → Option Nat → Int32 → Int32 → Int32 → Int32 → Int32 → Option (Int32 × St)
  | 0 => fun _ _ _ _ _ _ _ _ => none
  | n + 1 => fun s x1 x2 x3 x4 x5 x6 x7 => if (si s 0 20) ≤ x7 then (if x5 = 0 then (F_X0_partOf_114 s x1 x2 x3 x4 x5 x6) else (if x5 ≤ (1 : Int32) then (F_X0_partOf_118 s x1 x2 x3 x4 x5 x6) else (bnd (F_X0_term s (5 : Int32)) fun r4 s5 => if r4 ≤ (1 : Int32) then (F_X0_partOf_118 s5 x1 x2 x3 x4 x5 x6) else (F_X0_partOf_114 s5 x1 x2 x3 x4 x5 x6)))) else (drf x2 fun a8 => gd (isK s a8 100) <| gd (inb x7 (sk s a8).2) <| bnd (F_X0_gripsOf s x7 (si s a8 x7.toNatClampNeg) x3) fun r12 s13 => if r12 = (-1 : Int32) then (F_X0_partOf_29  n s13 x1 x2 x3 x4 x5 x6 (x7 + (1))) else (if x4 ≤ r12 then (if r12 ≤ x4 then (F_X0_partOf_81 (F_X0_partOf_29  n) s13 x1 x2 x3 x5 x6 x7 r12) else (F_X0_partOf_81 (F_X0_partOf_29  n) s13 x1 x2 x3 (0 : Int32) x7 x7 r12)) else (F_X0_partOf_29  n s13 x1 x2 x3 x4 x5 x6 (x7 + (1)))))
set_option maxHeartbeats 4000000 in
theorem w_X0_partOf_29 {X : CX} {E : EV} {a0 s' : St} {r : Int32} (B : FX X E cX0_partOf 9 (some .int) "RoseThrow" "partOf" (sn a0) (ss a0) 3 105) (hS : ∀ σ, eSk E σ ↔ SkC σ) : ∀ (n : Nat) (s : St) (x1 : Int32) (x2 : Option Nat) (x3 : Int32) (x4 : Int32) (x5 : Int32) (x6 : Int32) (x7 : Int32), F_X0_partOf_29   n s x1 x2 x3 x4 x5 x6 x7 = some (r, s') → J X E (sn a0) (ss a0) 9 (QR X E a0 (some (vi r)) s') s 29 [(0, vr (some 0)), (1, vi x1), (2, vr x2), (3, vi x3), (4, vi x4), (5, vi x5), (6, vi x6), (7, vi x7)] [] := by
  intro n
  induction n with
  | zero => intro s x1 x2 x3 x4 x5 x6 x7 h; exact absurd (show (none : Option (Int32 × St)) = _ from h) (by simp)
  | succ n ih =>
    intro s x1 x2 x3 x4 x5 x6 x7 h
    rw [F_X0_partOf_29] at h
    refine r_iload (j := 7) B dX0_partOf_29 rfl ?_
    refine r_aload_n (j := 0) B dX0_partOf_31 rfl rfl ?_
    refine g0 (k := 20) B (vi (si s 0 20)) rfl (fun z => by rw [((hS _).1 z).1 0 (by decide)]; rfl) rfl q376 rfl (fun _ => rfl) dX0_partOf_32 ?_
    refine r_ic_ge (tgt := 94) B dX0_partOf_35 (by decide) (fun cn1 => ?_) (fun cn1 => ?_)
    · have h := ot cn1 h
      refine r_iload (j := 5) B dX0_partOf_94 rfl ?_
      refine r_if_eq (tgt := 114) B dX0_partOf_96 (by decide) (fun cn2 => ?_) (fun cn2 => ?_)
      · have h := ot cn2 h
        refine r_pick [0, 1, 2, 3, 4, 5, 6] (L' := [(0, vr (some 0)), (1, vi x1), (2, vr x2), (3, vi x3), (4, vi x4), (5, vi x5), (6, vi x6)]) rfl ?_
        exact w_X0_partOf_114 B hS s x1 x2 x3 x4 x5 x6 h
      · have h := of cn2 h
        refine r_iload (j := 5) B dX0_partOf_99 rfl ?_
        refine r_iconst (v := 1) B dX0_partOf_101 (by decide) ?_
        refine r_ic_le (tgt := 118) B dX0_partOf_102 (by decide) (fun cn3 => ?_) (fun cn3 => ?_)
        · have h := ot cn3 h
          refine r_pick [0, 1, 2, 3, 4, 5, 6] (L' := [(0, vr (some 0)), (1, vi x1), (2, vr x2), (3, vi x3), (4, vi x4), (5, vi x5), (6, vi x6)]) rfl ?_
          exact w_X0_partOf_118 B hS s x1 x2 x3 x4 x5 x6 h
        · have h := of cn3 h
          refine r_aload_n (j := 0) B dX0_partOf_105 rfl rfl ?_
          refine r_iconst (v := 5) B dX0_partOf_106 (by decide) ?_
          obtain ⟨r4, s5, hc6, h⟩ := bnd_e h
          refine r_callVv (As := [vi (5 : Int32)]) (rest := []) B rfl rfl EX.same (c_X0_term B.ge hS hc6) (cw_X0_term rfl rfl) (fun z => RV.of 0 (by rw [((hS _).1 z).1 0 (by decide)]; rfl) rfl rfl qs10) q576 q578 rfl dX0_partOf_107 ?_
          refine r_iconst (v := 1) B dX0_partOf_110 (by decide) ?_
          refine r_ic_le (tgt := 118) B dX0_partOf_111 (by decide) (fun cn7 => ?_) (fun cn7 => ?_)
          · have h := ot cn7 h
            refine r_pick [0, 1, 2, 3, 4, 5, 6] (L' := [(0, vr (some 0)), (1, vi x1), (2, vr x2), (3, vi x3), (4, vi x4), (5, vi x5), (6, vi x6)]) rfl ?_
            exact w_X0_partOf_118 B hS s5 x1 x2 x3 x4 x5 x6 h
          · have h := of cn7 h
            refine r_pick [0, 1, 2, 3, 4, 5, 6] (L' := [(0, vr (some 0)), (1, vi x1), (2, vr x2), (3, vi x3), (4, vi x4), (5, vi x5), (6, vi x6)]) rfl ?_
            exact w_X0_partOf_114 B hS s5 x1 x2 x3 x4 x5 x6 h
    · have h := of cn1 h
      refine r_aload_n (j := 0) B dX0_partOf_38 rfl rfl ?_
      refine r_iload (j := 7) B dX0_partOf_39 rfl ?_
      refine r_aload_n (j := 2) B dX0_partOf_41 rfl rfl ?_
      refine r_iload (j := 7) B dX0_partOf_42 rfl ?_
      obtain ⟨a8, ea9, h⟩ := drf_e h
      obtain ⟨hg10, h⟩ := gd_e h
      obtain ⟨hg11, h⟩ := gd_e h
      refine r_iald B ea9 (fun _ => isK_a hg10) hg11 dX0_partOf_44 ?_
      refine r_iload_n (j := 3) B dX0_partOf_45 rfl rfl ?_
      obtain ⟨r12, s13, hc14, h⟩ := bnd_e h
      refine r_callVv (As := [vi x7, vi (si s a8 x7.toNatClampNeg), vi x3]) (rest := []) B rfl rfl EX.same (c_X0_gripsOf B.ge hS hc14) (cw_X0_gripsOf rfl rfl) (fun z => RV.of 0 (by rw [((hS _).1 z).1 0 (by decide)]; rfl) rfl rfl qs32) q1299 q1301 rfl dX0_partOf_46 ?_
      refine r_istore (L' := [(0, vr (some 0)), (1, vi x1), (2, vr x2), (3, vi x3), (4, vi x4), (5, vi x5), (6, vi x6), (7, vi x7), (8, vi r12)]) B dX0_partOf_49 (by decide) rfl rfl rfl ?_
      refine r_iload (j := 8) B dX0_partOf_51 rfl ?_
      refine r_iconst (v := -1) B dX0_partOf_53 (by decide) ?_
      refine r_ic_eq (tgt := 88) B dX0_partOf_54 (by decide) (fun cn15 => ?_) (fun cn15 => ?_)
      · have h := ot cn15 h
        refine r_iinc (j := 7) (v := (x7 + (1))) (L' := [(0, vr (some 0)), (1, vi x1), (2, vr x2), (3, vi x3), (4, vi x4), (5, vi x5), (6, vi x6), (7, vi (x7 + (1))), (8, vi r12)]) B dX0_partOf_88 rfl rfl (by decide) rfl rfl rfl ?_
        refine r_goto (tgt := 29) B dX0_partOf_91 (by decide) ?_
        refine r_pick [0, 1, 2, 3, 4, 5, 6, 7] (L' := [(0, vr (some 0)), (1, vi x1), (2, vr x2), (3, vi x3), (4, vi x4), (5, vi x5), (6, vi x6), (7, vi (x7 + (1)))]) rfl ?_
        exact ih s13 x1 x2 x3 x4 x5 x6 (x7 + (1)) h
      · have h := of cn15 h
        refine r_iload (j := 8) B dX0_partOf_57 rfl ?_
        refine r_iload (j := 4) B dX0_partOf_59 rfl ?_
        refine r_ic_ge (tgt := 67) B dX0_partOf_61 (by decide) (fun cn16 => ?_) (fun cn16 => ?_)
        · have h := ot cn16 h
          refine r_iload (j := 8) B dX0_partOf_67 rfl ?_
          refine r_iload (j := 4) B dX0_partOf_69 rfl ?_
          refine r_ic_le (tgt := 81) B dX0_partOf_71 (by decide) (fun cn17 => ?_) (fun cn17 => ?_)
          · have h := ot cn17 h
            refine r_pick [0, 1, 2, 3, 5, 6, 7, 8] (L' := [(0, vr (some 0)), (1, vi x1), (2, vr x2), (3, vi x3), (5, vi x5), (6, vi x6), (7, vi x7), (8, vi r12)]) rfl ?_
            exact w_X0_partOf_81 B hS (F_X0_partOf_29  n) ih s13 x1 x2 x3 x5 x6 x7 r12 h
          · have h := of cn17 h
            refine r_iconst (v := 0) B dX0_partOf_74 (by decide) ?_
            refine r_istore (L' := [(0, vr (some 0)), (1, vi x1), (2, vr x2), (3, vi x3), (4, vi x4), (5, vi (0 : Int32)), (6, vi x6), (7, vi x7), (8, vi r12)]) B dX0_partOf_75 (by decide) rfl rfl rfl ?_
            refine r_iload (j := 7) B dX0_partOf_77 rfl ?_
            refine r_istore (L' := [(0, vr (some 0)), (1, vi x1), (2, vr x2), (3, vi x3), (4, vi x4), (5, vi (0 : Int32)), (6, vi x7), (7, vi x7), (8, vi r12)]) B dX0_partOf_79 (by decide) rfl rfl rfl ?_
            refine r_pick [0, 1, 2, 3, 5, 6, 7, 8] (L' := [(0, vr (some 0)), (1, vi x1), (2, vr x2), (3, vi x3), (5, vi (0 : Int32)), (6, vi x7), (7, vi x7), (8, vi r12)]) rfl ?_
            exact w_X0_partOf_81 B hS (F_X0_partOf_29  n) ih s13 x1 x2 x3 (0 : Int32) x7 x7 r12 h
        · have h := of cn16 h
          refine r_goto (tgt := 88) B dX0_partOf_64 (by decide) ?_
          refine r_iinc (j := 7) (v := (x7 + (1))) (L' := [(0, vr (some 0)), (1, vi x1), (2, vr x2), (3, vi x3), (4, vi x4), (5, vi x5), (6, vi x6), (7, vi (x7 + (1))), (8, vi r12)]) B dX0_partOf_88 rfl rfl (by decide) rfl rfl rfl ?_
          refine r_goto (tgt := 29) B dX0_partOf_91 (by decide) ?_
          refine r_pick [0, 1, 2, 3, 4, 5, 6, 7] (L' := [(0, vr (some 0)), (1, vi x1), (2, vr x2), (3, vi x3), (4, vi x4), (5, vi x5), (6, vi x6), (7, vi (x7 + (1)))]) rfl ?_
          exact ih s13 x1 x2 x3 x4 x5 x6 (x7 + (1)) h
set_option maxHeartbeats 4000000 in
noncomputable def F_X0_partOf (s : St) (p0 : Int32) (p1 : Option Nat) (p2 : Int32) : Option (Int32 × St) := if p2 = (-1 : Int32) then (if p0 = (-1 : Int32) then (some ((60 : Int32), s)) else (some ((0 : Int32), s))) else (F_X0_partOf_29 FU s p0 p1 p2 (-1 : Int32) (0 : Int32) (-1 : Int32) (0 : Int32))
set_option maxHeartbeats 4000000 in
theorem c_X0_partOf {l : Launch} {E : EV} (hE : GE E) (hS : ∀ σ, eSk E σ ↔ SkC σ) {s s' : St} {r : Int32} {p0 : Int32} {p1 : Option Nat} {p2 : Int32} (h : F_X0_partOf  s p0 p1 p2 = some (r, s')) : CT l E yX0_partOf cX0_partOf 9 (some .int) 3 105 [vr (some 0), vi p0, vr p1, vi p2] s (some (vi r)) s' := by
  refine CT.start hE (by decide) rfl [(0, vr (some 0)), (1, vi p0), (2, vr p1), (3, vi p2)] rfl (fun X hX B => ?_)
  skip
  have B : FX X E cX0_partOf 9 (some .int) "RoseThrow" "partOf" (sn s) (ss s) 3 105 := B
  unfold F_X0_partOf at h
  refine r_iload_n (j := 3) B dX0_partOf_0 rfl rfl ?_
  refine r_iconst (v := -1) B dX0_partOf_1 (by decide) ?_
  refine r_ic_ne (tgt := 17) B dX0_partOf_2 (by decide) (fun cn1 => ?_) (fun cn1 => ?_)
  · have h := of cn1 h
    refine r_iconst (v := -1) B dX0_partOf_17 (by decide) ?_
    refine r_istore (L' := [(0, vr (some 0)), (1, vi p0), (2, vr p1), (3, vi p2), (4, vi (-1 : Int32))]) B dX0_partOf_18 (by decide) rfl rfl rfl ?_
    refine r_iconst (v := 0) B dX0_partOf_20 (by decide) ?_
    refine r_istore (L' := [(0, vr (some 0)), (1, vi p0), (2, vr p1), (3, vi p2), (4, vi (-1 : Int32)), (5, vi (0 : Int32))]) B dX0_partOf_21 (by decide) rfl rfl rfl ?_
    refine r_iconst (v := -1) B dX0_partOf_23 (by decide) ?_
    refine r_istore (L' := [(0, vr (some 0)), (1, vi p0), (2, vr p1), (3, vi p2), (4, vi (-1 : Int32)), (5, vi (0 : Int32)), (6, vi (-1 : Int32))]) B dX0_partOf_24 (by decide) rfl rfl rfl ?_
    refine r_iconst (v := 0) B dX0_partOf_26 (by decide) ?_
    refine r_istore (L' := [(0, vr (some 0)), (1, vi p0), (2, vr p1), (3, vi p2), (4, vi (-1 : Int32)), (5, vi (0 : Int32)), (6, vi (-1 : Int32)), (7, vi (0 : Int32))]) B dX0_partOf_27 (by decide) rfl rfl rfl ?_
    exact w_X0_partOf_29 B hS FU s p0 p1 p2 (-1 : Int32) (0 : Int32) (-1 : Int32) (0 : Int32) h
  · have h := ot cn1 h
    refine r_iload_n (j := 1) B dX0_partOf_5 rfl rfl ?_
    refine r_iconst (v := -1) B dX0_partOf_6 (by decide) ?_
    refine r_ic_ne (tgt := 15) B dX0_partOf_7 (by decide) (fun cn2 => ?_) (fun cn2 => ?_)
    · have h := of cn2 h
      refine r_iconst (v := 0) B dX0_partOf_15 (by decide) ?_
      exact r_iret B dX0_partOf_16 h
    · have h := ot cn2 h
      refine r_bipush (v := 60) B dX0_partOf_10 (by decide) ?_
      refine r_goto (tgt := 16) B dX0_partOf_12 (by decide) ?_
      exact r_iret B dX0_partOf_16 h
set_option maxHeartbeats 4000000 in
theorem cw_X0_partOf {X : CX} {fr lo : Nat} (h1 : Nat.ble (3 + 1) fr = true) (h2 : Nat.ble (28 + 105) lo = true) : CW X fr lo yX0_partOf cX0_partOf 9 (some .int) 3 105 3 := ⟨q1298, q126, ⟨by decide +kernel, by decide +kernel, by decide +kernel⟩, Nat.le_of_ble_eq_true h1, Nat.le_of_ble_eq_true h2⟩

set_option maxHeartbeats 4000000 in
noncomputable def F_X0_chance_6 : Nat → St → Int32 → Option Nat → Option Nat → Int64 → Int32 → Option (Int64 × St)
  | 0 => fun _ _ _ _ _ _ => none
  | n + 1 => fun s x1 x2 x3 x4 x6 => drf x2 fun a1 => gd (isK s a1 4) <| if (si s a1 2) ≤ x6 then (some (x4, s)) else (drf x2 fun a5 => gd (isK s a5 4) <| drf (sr s a5 1) fun a8 => gd (isK s a8 100) <| gd (inb x6 (sk s a8).2) <| drf x2 fun a12 => gd (isK s a12 4) <| drf (sr s a12 0) fun a15 => gd (isK s a15 100) <| gd (inb x6 (sk s a15).2) <| bnd (F_X0_partOf s x1 x3 (si s a15 x6.toNatClampNeg)) fun r19 s20 => nam (x4 + ((((si s a8 x6.toNatClampNeg)).toInt64) * ((r19).toInt64))) fun y22 => F_X0_chance_6  n s20 x1 x2 x3 y22 (x6 + (1)))
set_option maxHeartbeats 4000000 in
theorem w_X0_chance_6 {X : CX} {E : EV} {a0 s' : St} {r : Int64} (B : FX X E cX0_chance 7 (some .long) "RoseThrow" "chance" (sn a0) (ss a0) 4 133) (hS : ∀ σ, eSk E σ ↔ SkC σ) : ∀ (n : Nat) (s : St) (x1 : Int32) (x2 : Option Nat) (x3 : Option Nat) (x4 : Int64) (x6 : Int32), F_X0_chance_6   n s x1 x2 x3 x4 x6 = some (r, s') → J X E (sn a0) (ss a0) 7 (QR X E a0 (some (vl r)) s') s 6 [(0, vr (some 0)), (1, vi x1), (2, vr x2), (3, vr x3), (4, vl x4), (6, vi x6)] [] := by
  intro n
  induction n with
  | zero => intro s x1 x2 x3 x4 x6 h; exact absurd (show (none : Option (Int64 × St)) = _ from h) (by simp)
  | succ n ih =>
    intro s x1 x2 x3 x4 x6 h
    rw [F_X0_chance_6] at h
    refine r_iload (j := 5) B dX0_chance_6 rfl ?_
    refine r_aload_n (j := 2) B dX0_chance_8 rfl rfl ?_
    obtain ⟨a1, ea2, h⟩ := drf_e h
    obtain ⟨hg3, h⟩ := gd_e h
    refine g4N (k := 2) B (vi (si s a1 2)) ea2 (fun _ => isK_e hg3) rfl (lw_n q340 rfl) rfl (fun _ => rfl) dX0_chance_9 ?_
    refine r_ic_ge (tgt := 49) B dX0_chance_12 (by decide) (fun cn4 => ?_) (fun cn4 => ?_)
    · have h := ot cn4 h
      refine r_lload (j := 4) B dX0_chance_49 rfl ?_
      exact r_lret B dX0_chance_51 h
    · have h := of cn4 h
      refine r_lload (j := 4) B dX0_chance_15 rfl ?_
      refine r_aload_n (j := 2) B dX0_chance_17 rfl rfl ?_
      obtain ⟨a5, ea6, h⟩ := drf_e h
      obtain ⟨hg7, h⟩ := gd_e h
      refine g4N (k := 1) B (vr (sr s a5 1)) ea6 (fun _ => isK_e hg7) rfl (lw_n q338 rfl) rfl (fun _ => rfl) dX0_chance_18 ?_
      refine r_iload (j := 5) B dX0_chance_21 rfl ?_
      obtain ⟨a8, ea9, h⟩ := drf_e h
      obtain ⟨hg10, h⟩ := gd_e h
      obtain ⟨hg11, h⟩ := gd_e h
      refine r_iald B ea9 (fun _ => isK_a hg10) hg11 dX0_chance_23 ?_
      refine r_i2l B dX0_chance_24 ?_
      refine r_aload_n (j := 0) B dX0_chance_25 rfl rfl ?_
      refine r_iload_n (j := 1) B dX0_chance_26 rfl rfl ?_
      refine r_aload_n (j := 3) B dX0_chance_27 rfl rfl ?_
      refine r_aload_n (j := 2) B dX0_chance_28 rfl rfl ?_
      obtain ⟨a12, ea13, h⟩ := drf_e h
      obtain ⟨hg14, h⟩ := gd_e h
      refine g4N (k := 0) B (vr (sr s a12 0)) ea13 (fun _ => isK_e hg14) rfl (lw_n q336 rfl) rfl (fun _ => rfl) dX0_chance_29 ?_
      refine r_iload (j := 5) B dX0_chance_32 rfl ?_
      obtain ⟨a15, ea16, h⟩ := drf_e h
      obtain ⟨hg17, h⟩ := gd_e h
      obtain ⟨hg18, h⟩ := gd_e h
      refine r_iald B ea16 (fun _ => isK_a hg17) hg18 dX0_chance_34 ?_
      obtain ⟨r19, s20, hc21, h⟩ := bnd_e h
      refine r_callVv (As := [vi x1, vr x3, vi (si s a15 x6.toNatClampNeg)]) (rest := [vl (((si s a8 x6.toNatClampNeg)).toInt64), vl x4]) B rfl rfl EX.same (c_X0_partOf B.ge hS hc21) (cw_X0_partOf rfl rfl) (fun z => RV.of 0 (by rw [((hS _).1 z).1 0 (by decide)]; rfl) rfl rfl qs31) q1295 q1297 rfl dX0_chance_35 ?_
      refine r_i2l B dX0_chance_38 ?_
      refine r_lmul B dX0_chance_39 ?_
      refine r_ladd B dX0_chance_40 ?_
      obtain ⟨y22, e23, h⟩ := nam_e h
      refine r_topl e23 ?_
      refine r_lstore (L' := [(0, vr (some 0)), (1, vi x1), (2, vr x2), (3, vr x3), (4, vl y22), (6, vi x6)]) B dX0_chance_41 (by decide) rfl rfl rfl ?_
      refine r_iinc (j := 5) (v := (x6 + (1))) (L' := [(0, vr (some 0)), (1, vi x1), (2, vr x2), (3, vr x3), (4, vl y22), (6, vi (x6 + (1)))]) B dX0_chance_43 rfl rfl (by decide) rfl rfl rfl ?_
      refine r_goto (tgt := 6) B dX0_chance_46 (by decide) ?_
      exact ih s20 x1 x2 x3 y22 (x6 + (1)) h
set_option maxHeartbeats 4000000 in
noncomputable def F_X0_chance (s : St) (p0 : Int32) (p1 : Option Nat) (p2 : Option Nat) : Option (Int64 × St) := F_X0_chance_6 FU s p0 p1 p2 (0 : Int64) (0 : Int32)
set_option maxHeartbeats 4000000 in
theorem c_X0_chance {l : Launch} {E : EV} (hE : GE E) (hS : ∀ σ, eSk E σ ↔ SkC σ) {s s' : St} {r : Int64} {p0 : Int32} {p1 : Option Nat} {p2 : Option Nat} (h : F_X0_chance  s p0 p1 p2 = some (r, s')) : CT l E yX0_chance cX0_chance 7 (some .long) 4 133 [vr (some 0), vi p0, vr p1, vr p2] s (some (vl r)) s' := by
  refine CT.start hE (by decide) rfl [(0, vr (some 0)), (1, vi p0), (2, vr p1), (3, vr p2)] rfl (fun X hX B => ?_)
  skip
  have B : FX X E cX0_chance 7 (some .long) "RoseThrow" "chance" (sn s) (ss s) 4 133 := B
  unfold F_X0_chance at h
  refine r_lconst (v := 0) B dX0_chance_0 (by decide) ?_
  refine r_lstore (L' := [(0, vr (some 0)), (1, vi p0), (2, vr p1), (3, vr p2), (4, vl (0 : Int64))]) B dX0_chance_1 (by decide) rfl rfl rfl ?_
  refine r_iconst (v := 0) B dX0_chance_3 (by decide) ?_
  refine r_istore (L' := [(0, vr (some 0)), (1, vi p0), (2, vr p1), (3, vr p2), (4, vl (0 : Int64)), (6, vi (0 : Int32))]) B dX0_chance_4 (by decide) rfl rfl rfl ?_
  exact w_X0_chance_6 B hS FU s p0 p1 p2 (0 : Int64) (0 : Int32) h
set_option maxHeartbeats 4000000 in
theorem cw_X0_chance {X : CX} {fr lo : Nat} (h1 : Nat.ble (4 + 1) fr = true) (h2 : Nat.ble (26 + 133) lo = true) : CW X fr lo yX0_chance cX0_chance 7 (some .long) 4 133 3 := ⟨q1294, q126, ⟨by decide +kernel, by decide +kernel, by decide +kernel⟩, Nat.le_of_ble_eq_true h1, Nat.le_of_ble_eq_true h2⟩

set_option maxHeartbeats 4000000 in
noncomputable def F_X4_lower (s : St) (this : Nat)  : Option (Int64 × St) := gd (isK s this 4) <| some (((60 : Int64) * (((si s this 3)).toInt64)), s)
set_option maxHeartbeats 4000000 in
theorem c_X4_lower {l : Launch} {E : EV} (hE : GE E) (hS : ∀ σ, eSk E σ ↔ SkC σ) {s s' : St} {r : Int64} {this : Nat}  (h : F_X4_lower  s this = some (r, s')) : CT l E yX4_lower cX4_lower 1 (some .long) 0 0 [vr (some this)] s (some (vl r)) s' := by
  refine CT.start hE (by decide) rfl [(0, vr (some this))] rfl (fun X hX B => ?_)
  skip
  have B : FX X E cX4_lower 1 (some .long) "RoseThrow$Flight" "lower" (sn s) (ss s) 0 0 := B
  unfold F_X4_lower at h
  refine r_ldc2 B dX4_lower_0 q1313 ?_
  refine r_aload_n (j := 0) B dX4_lower_3 rfl rfl ?_
  obtain ⟨hg1, h⟩ := gd_e h
  refine g4 (k := 3) B (vi (si s this 3)) rfl (fun _ => isK_e hg1) rfl q341 rfl (fun _ => rfl) dX4_lower_4 ?_
  refine r_i2l B dX4_lower_7 ?_
  refine r_lmul B dX4_lower_8 ?_
  exact r_lret B dX4_lower_9 h
set_option maxHeartbeats 4000000 in
theorem cw_X4_lower {X : CX} {fr lo : Nat} (h1 : Nat.ble (0 + 1) fr = true) (h2 : Nat.ble (20 + 0) lo = true) : CW X fr lo yX4_lower cX4_lower 1 (some .long) 0 0 0 := ⟨q1312, q135, ⟨by decide +kernel, by decide +kernel, by decide +kernel⟩, Nat.le_of_ble_eq_true h1, Nat.le_of_ble_eq_true h2⟩

set_option maxHeartbeats 4000000 in
noncomputable def F_X0_has_62 (s : St) (z0 : Int32) (z1 : Int64) (z2 : Int64) : Option (Int64 × St) := bnd (F_X0_tells s z2 z1 z0) fun r1 s2 => some (r1, s2)
set_option maxHeartbeats 4000000 in
theorem w_X0_has_62 {X : CX} {E : EV} {a0 s' : St} {r : Int64} (B : FX X E cX0_has 3 (some .long) "RoseThrow" "has" (sn a0) (ss a0) 246 13745) (hS : ∀ σ, eSk E σ ↔ SkC σ) (s : St) (z0 : Int32) (z1 : Int64) (z2 : Int64) (h : F_X0_has_62   s z0 z1 z2 = some (r, s')) : J X E (sn a0) (ss a0) 3 (QR X E a0 (some (vl r)) s') s 62 [] [vi z0, vl z1, vl z2] := by
  unfold F_X0_has_62 at h
  obtain ⟨r1, s2, hc3, h⟩ := bnd_e h
  refine r_callSv (As := [vl z2, vl z1, vi z0]) (rest := []) B rfl EX.same (c_X0_tells B.ge hS hc3) (cw_X0_tells rfl rfl) q1281 q1282 rfl dX0_has_62 ?_
  exact r_lret B dX0_has_65 h
set_option maxHeartbeats 4000000 in
noncomputable def F_X0_has_13 (s : St) (x1 : Int32) (x2 : Int32) : Option (Int64 × St) := bnd (F_X0_in s x2 (0 : Int32) (1 : Int32)) fun r1 s2 => if r1 = 0 then (some ((-1 : Int64), s2)) else (bnd (F_X0_looks s2) fun _ s6 => bnd (F_X0_chance s6 x1 (some 23) (some 3)) fun r8 s9 => bnd (F_X4_lower s9 23) fun r11 s12 => if x2 = 0 then (F_X0_has_62 s12 (1 : Int32) r11 r8) else (F_X0_has_62 s12 (0 : Int32) r11 r8))
set_option maxHeartbeats 4000000 in
theorem w_X0_has_13 {X : CX} {E : EV} {a0 s' : St} {r : Int64} (B : FX X E cX0_has 3 (some .long) "RoseThrow" "has" (sn a0) (ss a0) 246 13745) (hS : ∀ σ, eSk E σ ↔ SkC σ) (s : St) (x1 : Int32) (x2 : Int32) (h : F_X0_has_13   s x1 x2 = some (r, s')) : J X E (sn a0) (ss a0) 3 (QR X E a0 (some (vl r)) s') s 13 [(0, vr (some 0)), (1, vi x1), (2, vi x2)] [] := by
  unfold F_X0_has_13 at h
  refine r_iload_n (j := 2) B dX0_has_13 rfl rfl ?_
  refine r_iconst (v := 0) B dX0_has_14 (by decide) ?_
  refine r_iconst (v := 1) B dX0_has_15 (by decide) ?_
  obtain ⟨r1, s2, hc3, h⟩ := bnd_e h
  refine r_callSv (As := [vi x2, vi (0 : Int32), vi (1 : Int32)]) (rest := []) B rfl EX.same (c_X0_in B.ge hS hc3) (cw_X0_in rfl rfl) q445 q446 rfl dX0_has_16 ?_
  refine r_if_ne (tgt := 26) B dX0_has_19 (by decide) (fun cn4 => ?_) (fun cn4 => ?_)
  · have h := of cn4 h
    refine r_aload_n (j := 0) B dX0_has_26 rfl rfl ?_
    obtain ⟨r5, s6, hc7, h⟩ := bnd_e h
    refine r_callV0 (As := []) (rest := []) B rfl rfl EX.same (c_X0_looks B.ge hS hc7) (cw_X0_looks rfl rfl) (fun z => RV.of 0 (by rw [((hS _).1 z).1 0 (by decide)]; rfl) rfl rfl qs26) q1253 q1255 rfl dX0_has_27 ?_
    refine r_aload_n (j := 0) B dX0_has_30 rfl rfl ?_
    refine r_iload_n (j := 1) B dX0_has_31 rfl rfl ?_
    refine r_aload_n (j := 0) B dX0_has_32 rfl rfl ?_
    refine g0 (k := 17) B (vr (some 23)) rfl (fun z => by rw [((hS _).1 z).1 0 (by decide)]; rfl) rfl q373 rfl (fun z => by rw [((hS _).1 z).2 _ (List.mem_of_getElem? (i := 11) rfl)]; rfl) dX0_has_33 ?_
    refine r_aload_n (j := 0) B dX0_has_36 rfl rfl ?_
    refine g0 (k := 2) B (vr (some 2)) rfl (fun z => by rw [((hS _).1 z).1 0 (by decide)]; rfl) rfl q358 rfl (fun z => by rw [((hS _).1 z).2 _ (List.mem_of_getElem? (i := 1) rfl)]; rfl) dX0_has_37 ?_
    refine g1N (k := 0) B (vr (some 3)) rfl (fun z => by rw [((hS _).1 z).1 2 (by decide)]; rfl) rfl (lw_n q206 rfl) rfl (fun z => by rw [((hS _).1 z).2 _ (List.mem_of_getElem? (i := 17) rfl)]; rfl) dX0_has_40 ?_
    obtain ⟨r8, s9, hc10, h⟩ := bnd_e h
    refine r_callVv (As := [vi x1, vr (some 23), vr (some 3)]) (rest := []) B rfl rfl EX.same (c_X0_chance B.ge hS hc10) (cw_X0_chance rfl rfl) (fun z => RV.of 0 (by rw [((hS _).1 z).1 0 (by decide)]; rfl) rfl rfl qs30) q1291 q1293 rfl dX0_has_43 ?_
    refine r_aload_n (j := 0) B dX0_has_46 rfl rfl ?_
    refine g0 (k := 17) B (vr (some 23)) rfl (fun z => by rw [((hS _).1 z).1 0 (by decide)]; rfl) rfl q373 rfl (fun z => by rw [((hS _).1 z).2 _ (List.mem_of_getElem? (i := 11) rfl)]; rfl) dX0_has_47 ?_
    obtain ⟨r11, s12, hc13, h⟩ := bnd_e h
    refine r_callVv (As := []) (rest := [vl r8]) B rfl rfl EX.same (c_X4_lower B.ge hS hc13) (cw_X4_lower rfl rfl) (fun z => RV.of 4 ((fun z => by rw [((hS _).1 z).1 23 (by decide)]; rfl) z) rfl rfl q1311) q1309 q1310 rfl dX0_has_50 ?_
    refine r_iload_n (j := 2) B dX0_has_53 rfl rfl ?_
    refine r_if_ne (tgt := 61) B dX0_has_54 (by decide) (fun cn14 => ?_) (fun cn14 => ?_)
    · have h := of cn14 h
      refine r_iconst (v := 0) B dX0_has_61 (by decide) ?_
      refine r_pick [] (L' := []) rfl ?_
      exact w_X0_has_62 B hS s12 (0 : Int32) r11 r8 h
    · have h := ot cn14 h
      refine r_iconst (v := 1) B dX0_has_57 (by decide) ?_
      refine r_goto (tgt := 62) B dX0_has_58 (by decide) ?_
      refine r_pick [] (L' := []) rfl ?_
      exact w_X0_has_62 B hS s12 (1 : Int32) r11 r8 h
  · have h := ot cn4 h
    refine r_ldc2 B dX0_has_22 q575 ?_
    exact r_lret B dX0_has_25 h
set_option maxHeartbeats 4000000 in
noncomputable def F_X0_has (s : St) (p0 : Int32) (p1 : Int32) : Option (Int64 × St) := if p0 = (-1 : Int32) then (F_X0_has_13 s p0 p1) else (bnd (F_X0_isCatcher s p0) fun r2 s3 => if r2 = 0 then (some ((-1 : Int64), s3)) else (F_X0_has_13 s3 p0 p1))
set_option maxHeartbeats 4000000 in
theorem c_X0_has {l : Launch} {E : EV} (hE : GE E) (hS : ∀ σ, eSk E σ ↔ SkC σ) {s s' : St} {r : Int64} {p0 : Int32} {p1 : Int32} (h : F_X0_has  s p0 p1 = some (r, s')) : CT l E yX0_has cX0_has 3 (some .long) 246 13745 [vr (some 0), vi p0, vi p1] s (some (vl r)) s' := by
  refine CT.start hE (by decide) rfl [(0, vr (some 0)), (1, vi p0), (2, vi p1)] rfl (fun X hX B => ?_)
  skip
  have B : FX X E cX0_has 3 (some .long) "RoseThrow" "has" (sn s) (ss s) 246 13745 := B
  unfold F_X0_has at h
  refine r_iload_n (j := 1) B dX0_has_0 rfl rfl ?_
  refine r_iconst (v := -1) B dX0_has_1 (by decide) ?_
  refine r_ic_eq (tgt := 13) B dX0_has_2 (by decide) (fun cn1 => ?_) (fun cn1 => ?_)
  · have h := ot cn1 h
    exact w_X0_has_13 B hS s p0 p1 h
  · have h := of cn1 h
    refine r_aload_n (j := 0) B dX0_has_5 rfl rfl ?_
    refine r_iload_n (j := 1) B dX0_has_6 rfl rfl ?_
    obtain ⟨r2, s3, hc4, h⟩ := bnd_e h
    refine r_callVv (As := [vi p0]) (rest := []) B rfl rfl EX.same (c_X0_isCatcher B.ge hS hc4) (cw_X0_isCatcher rfl rfl) (fun z => RV.of 0 (by rw [((hS _).1 z).1 0 (by decide)]; rfl) rfl rfl qs12) q654 q656 rfl dX0_has_7 ?_
    refine r_if_eq (tgt := 22) B dX0_has_10 (by decide) (fun cn5 => ?_) (fun cn5 => ?_)
    · have h := ot cn5 h
      refine r_ldc2 B dX0_has_22 q575 ?_
      exact r_lret B dX0_has_25 h
    · have h := of cn5 h
      exact w_X0_has_13 B hS s3 p0 p1 h
set_option maxHeartbeats 4000000 in
theorem cw_X0_has {X : CX} {fr lo : Nat} (h1 : Nat.ble (246 + 1) fr = true) (h2 : Nat.ble (22 + 13745) lo = true) : CW X fr lo yX0_has cX0_has 3 (some .long) 246 13745 2 := ⟨q1290, q126, ⟨by decide +kernel, by decide +kernel, by decide +kernel⟩, Nat.le_of_ble_eq_true h1, Nat.le_of_ble_eq_true h2⟩

set_option maxHeartbeats 4000000 in
noncomputable def F_X0_copies (s : St)  : Option (Unit × St) := gd (okC (0 : Int32) (0 : Int32) (6 : Int32) 6 6) <| nam (cpyI s 3 (0 : Int32).toNatClampNeg 28 (0 : Int32).toNatClampNeg (6 : Int32).toNatClampNeg) fun s2 => some ((), s2)
set_option maxHeartbeats 4000000 in
theorem c_X0_copies {l : Launch} {E : EV} (hE : GE E) (hS : ∀ σ, eSk E σ ↔ SkC σ) {s s' : St} {r : Unit}  (h : F_X0_copies  s  = some (r, s')) : CT l E yX0_copies cX0_copies 1 none 1 60 [vr (some 0)] s none s' := by
  refine CT.start hE (by decide) rfl [(0, vr (some 0))] rfl (fun X hX B => ?_)
  skip
  have B : FX X E cX0_copies 1 none "RoseThrow" "copies" (sn s) (ss s) 1 60 := B
  unfold F_X0_copies at h
  refine r_aload_n (j := 0) B dX0_copies_0 rfl rfl ?_
  refine g0 (k := 2) B (vr (some 2)) rfl (fun z => by rw [((hS _).1 z).1 0 (by decide)]; rfl) rfl q358 rfl (fun z => by rw [((hS _).1 z).2 _ (List.mem_of_getElem? (i := 1) rfl)]; rfl) dX0_copies_1 ?_
  refine g1N (k := 0) B (vr (some 3)) rfl (fun z => by rw [((hS _).1 z).1 2 (by decide)]; rfl) rfl (lw_n q206 rfl) rfl (fun z => by rw [((hS _).1 z).2 _ (List.mem_of_getElem? (i := 17) rfl)]; rfl) dX0_copies_4 ?_
  refine r_iconst (v := 0) B dX0_copies_7 (by decide) ?_
  refine r_aload_n (j := 0) B dX0_copies_8 rfl rfl ?_
  refine g0 (k := 21) B (vr (some 28)) rfl (fun z => by rw [((hS _).1 z).1 0 (by decide)]; rfl) rfl q377 rfl (fun z => by rw [((hS _).1 z).2 _ (List.mem_of_getElem? (i := 14) rfl)]; rfl) dX0_copies_9 ?_
  refine r_iconst (v := 0) B dX0_copies_12 (by decide) ?_
  refine r_bipush (v := 6) B dX0_copies_13 (by decide) ?_
  obtain ⟨hg1, h⟩ := gd_e h
  obtain ⟨s2, e3, h⟩ := nam_e h
  refine r_copyI B e3 rfl rfl (fun z => ((hS _).1 z).1 3 (by decide)) (fun z => ((hS _).1 z).1 28 (by decide)) hg1 q1221 q461 q460 q157 (by decide) (by decide) rfl dX0_copies_15 ?_
  exact r_vret B dX0_copies_18 h
set_option maxHeartbeats 4000000 in
theorem cw_X0_copies {X : CX} {fr lo : Nat} (h1 : Nat.ble (1 + 1) fr = true) (h2 : Nat.ble (20 + 60) lo = true) : CW X fr lo yX0_copies cX0_copies 1 none 1 60 0 := ⟨q1321, q126, ⟨by decide +kernel, by decide +kernel, by decide +kernel⟩, Nat.le_of_ble_eq_true h1, Nat.le_of_ble_eq_true h2⟩

set_option maxHeartbeats 4000000 in
noncomputable def F_X0_bestCell_48 (k17 : St → Int32 → Int32 → Int32 → Int64 → Int32 → Option (Int32 × St)) (s : St) (x1 : Int32) (x2 : Int32) (x3 : Int32) (x4 : Int64) (x6 : Int32) : Option (Int32 × St) := bnd (F_X0_isBarred_2 s x1 x6) fun r1 s2 => if r1 = 0 then (gd (inb x1 6) <| nam (setI s2 28 x1.toNatClampNeg x6) fun s6 => bnd (F_X0_chance s6 x1 (some 23) (some 28)) fun r8 s9 => gd (inb x1 6) <| nam (setI s9 28 x1.toNatClampNeg x2) fun s12 => if x4 < r8 then (k17 s12 x1 x2 x6 r8 (x6 + (1))) else (k17 s12 x1 x2 x3 x4 (x6 + (1)))) else (k17 s2 x1 x2 x3 x4 (x6 + (1)))
set_option maxHeartbeats 4000000 in
theorem w_X0_bestCell_48 {X : CX} {E : EV} {a0 s' : St} {r : Int32} (B : FX X E cX0_bestCell 10 (some .int) "RoseThrow" "bestCell" (sn a0) (ss a0) 245 13716) (hS : ∀ σ, eSk E σ ↔ SkC σ) (k17 : St → Int32 → Int32 → Int32 → Int64 → Int32 → Option (Int32 × St)) (hk17 : ∀ (s : St) (x1 : Int32) (x2 : Int32) (x3 : Int32) (x4 : Int64) (x6 : Int32), k17 s x1 x2 x3 x4 x6 = some (r, s') → J X E (sn a0) (ss a0) 10 (QR X E a0 (some (vi r)) s') s 17 [(0, vr (some 0)), (1, vi x1), (2, vi x2), (3, vi x3), (4, vl x4), (6, vi x6)] []) (s : St) (x1 : Int32) (x2 : Int32) (x3 : Int32) (x4 : Int64) (x6 : Int32) (h : F_X0_bestCell_48  k17 s x1 x2 x3 x4 x6 = some (r, s')) : J X E (sn a0) (ss a0) 10 (QR X E a0 (some (vi r)) s') s 48 [(0, vr (some 0)), (1, vi x1), (2, vi x2), (3, vi x3), (4, vl x4), (6, vi x6)] [] := by
  unfold F_X0_bestCell_48 at h
  refine r_aload_n (j := 0) B dX0_bestCell_48 rfl rfl ?_
  refine r_iload_n (j := 1) B dX0_bestCell_49 rfl rfl ?_
  refine r_iload (j := 5) B dX0_bestCell_50 rfl ?_
  obtain ⟨r1, s2, hc3, h⟩ := bnd_e h
  refine r_callVv (As := [vi x1, vi x6]) (rest := []) B rfl rfl EX.same (c_X0_isBarred_2 B.ge hS hc3) (cw_X0_isBarred_2 rfl rfl) (fun z => RV.of 0 (by rw [((hS _).1 z).1 0 (by decide)]; rfl) rfl rfl qs19) q1201 q1203 rfl dX0_bestCell_52 ?_
  refine r_if_eq (tgt := 61) B dX0_bestCell_55 (by decide) (fun cn4 => ?_) (fun cn4 => ?_)
  · have h := ot cn4 h
    refine r_aload_n (j := 0) B dX0_bestCell_61 rfl rfl ?_
    refine g0 (k := 21) B (vr (some 28)) rfl (fun z => by rw [((hS _).1 z).1 0 (by decide)]; rfl) rfl q377 rfl (fun z => by rw [((hS _).1 z).2 _ (List.mem_of_getElem? (i := 14) rfl)]; rfl) dX0_bestCell_62 ?_
    refine r_iload_n (j := 1) B dX0_bestCell_65 rfl rfl ?_
    refine r_iload (j := 5) B dX0_bestCell_66 rfl ?_
    obtain ⟨hg5, h⟩ := gd_e h
    obtain ⟨s6, e7, h⟩ := nam_e h
    refine r_iast B e7 rfl (fun z => ((hS _).1 z).1 28 (by decide)) hg5 dX0_bestCell_68 ?_
    refine r_aload_n (j := 0) B dX0_bestCell_69 rfl rfl ?_
    refine r_iload_n (j := 1) B dX0_bestCell_70 rfl rfl ?_
    refine r_aload_n (j := 0) B dX0_bestCell_71 rfl rfl ?_
    refine g0 (k := 17) B (vr (some 23)) rfl (fun z => by rw [((hS _).1 z).1 0 (by decide)]; rfl) rfl q373 rfl (fun z => by rw [((hS _).1 z).2 _ (List.mem_of_getElem? (i := 11) rfl)]; rfl) dX0_bestCell_72 ?_
    refine r_aload_n (j := 0) B dX0_bestCell_75 rfl rfl ?_
    refine g0 (k := 21) B (vr (some 28)) rfl (fun z => by rw [((hS _).1 z).1 0 (by decide)]; rfl) rfl q377 rfl (fun z => by rw [((hS _).1 z).2 _ (List.mem_of_getElem? (i := 14) rfl)]; rfl) dX0_bestCell_76 ?_
    obtain ⟨r8, s9, hc10, h⟩ := bnd_e h
    refine r_callVv (As := [vi x1, vr (some 23), vr (some 28)]) (rest := []) B rfl rfl EX.same (c_X0_chance B.ge hS hc10) (cw_X0_chance rfl rfl) (fun z => RV.of 0 (by rw [((hS _).1 z).1 0 (by decide)]; rfl) rfl rfl qs30) q1291 q1293 rfl dX0_bestCell_79 ?_
    refine r_lstore (L' := [(0, vr (some 0)), (1, vi x1), (2, vi x2), (3, vi x3), (4, vl x4), (6, vi x6), (8, vl r8)]) B dX0_bestCell_82 (by decide) rfl rfl rfl ?_
    refine r_aload_n (j := 0) B dX0_bestCell_84 rfl rfl ?_
    refine g0 (k := 21) B (vr (some 28)) rfl (fun z => by rw [((hS _).1 z).1 0 (by decide)]; rfl) rfl q377 rfl (fun z => by rw [((hS _).1 z).2 _ (List.mem_of_getElem? (i := 14) rfl)]; rfl) dX0_bestCell_85 ?_
    refine r_iload_n (j := 1) B dX0_bestCell_88 rfl rfl ?_
    refine r_iload_n (j := 2) B dX0_bestCell_89 rfl rfl ?_
    obtain ⟨hg11, h⟩ := gd_e h
    obtain ⟨s12, e13, h⟩ := nam_e h
    refine r_iast B e13 rfl (fun z => ((hS _).1 z).1 28 (by decide)) hg11 dX0_bestCell_90 ?_
    refine r_lload (j := 6) B dX0_bestCell_91 rfl ?_
    refine r_lload (j := 4) B dX0_bestCell_93 rfl ?_
    refine r_lcmp B dX0_bestCell_95 ?_
    refine r_if_gt (tgt := 102) B dX0_bestCell_96 (by decide) (fun cn14 => ?_) (fun cn14 => ?_)
    · have h := ot (lc_gt.mp cn14) h
      refine r_lload (j := 6) B dX0_bestCell_102 rfl ?_
      refine r_lstore (L' := [(0, vr (some 0)), (1, vi x1), (2, vi x2), (3, vi x3), (4, vl r8), (6, vi x6), (8, vl r8)]) B dX0_bestCell_104 (by decide) rfl rfl rfl ?_
      refine r_iload (j := 5) B dX0_bestCell_106 rfl ?_
      refine r_istore_n (L' := [(0, vr (some 0)), (1, vi x1), (2, vi x2), (3, vi x6), (4, vl r8), (6, vi x6), (8, vl r8)]) B dX0_bestCell_108 rfl (by decide) rfl rfl rfl ?_
      refine r_iinc (j := 5) (v := (x6 + (1))) (L' := [(0, vr (some 0)), (1, vi x1), (2, vi x2), (3, vi x6), (4, vl r8), (6, vi (x6 + (1))), (8, vl r8)]) B dX0_bestCell_109 rfl rfl (by decide) rfl rfl rfl ?_
      refine r_goto (tgt := 17) B dX0_bestCell_112 (by decide) ?_
      refine r_pick [0, 1, 2, 3, 4, 5] (L' := [(0, vr (some 0)), (1, vi x1), (2, vi x2), (3, vi x6), (4, vl r8), (6, vi (x6 + (1)))]) rfl ?_
      exact hk17 s12 x1 x2 x6 r8 (x6 + (1)) h
    · have h := of (fun z => cn14 (lc_gt.mpr z)) h
      refine r_goto (tgt := 109) B dX0_bestCell_99 (by decide) ?_
      refine r_iinc (j := 5) (v := (x6 + (1))) (L' := [(0, vr (some 0)), (1, vi x1), (2, vi x2), (3, vi x3), (4, vl x4), (6, vi (x6 + (1))), (8, vl r8)]) B dX0_bestCell_109 rfl rfl (by decide) rfl rfl rfl ?_
      refine r_goto (tgt := 17) B dX0_bestCell_112 (by decide) ?_
      refine r_pick [0, 1, 2, 3, 4, 5] (L' := [(0, vr (some 0)), (1, vi x1), (2, vi x2), (3, vi x3), (4, vl x4), (6, vi (x6 + (1)))]) rfl ?_
      exact hk17 s12 x1 x2 x3 x4 (x6 + (1)) h
  · have h := of cn4 h
    refine r_goto (tgt := 109) B dX0_bestCell_58 (by decide) ?_
    refine r_iinc (j := 5) (v := (x6 + (1))) (L' := [(0, vr (some 0)), (1, vi x1), (2, vi x2), (3, vi x3), (4, vl x4), (6, vi (x6 + (1)))]) B dX0_bestCell_109 rfl rfl (by decide) rfl rfl rfl ?_
    refine r_goto (tgt := 17) B dX0_bestCell_112 (by decide) ?_
    exact hk17 s2 x1 x2 x3 x4 (x6 + (1)) h
set_option maxHeartbeats 4000000 in
noncomputable def F_X0_bestCell_17 : Nat → St → Int32 → Int32 → Int32 → Int64 → Int32 → Option (Int32 × St)
  | 0 => fun _ _ _ _ _ _ => none
  | n + 1 => fun s x1 x2 x3 x4 x6 => if (36 : Int32) ≤ x6 then (some (x3, s)) else (bnd (F_X0_whoIn s (some 28) x6) fun r2 s3 => if r2 = (-1 : Int32) then (F_X0_bestCell_48 (F_X0_bestCell_17  n) s3 x1 x2 x3 x4 x6) else (if r2 = x1 then (F_X0_bestCell_48 (F_X0_bestCell_17  n) s3 x1 x2 x3 x4 x6) else (F_X0_bestCell_17  n s3 x1 x2 x3 x4 (x6 + (1)))))
set_option maxHeartbeats 4000000 in
theorem w_X0_bestCell_17 {X : CX} {E : EV} {a0 s' : St} {r : Int32} (B : FX X E cX0_bestCell 10 (some .int) "RoseThrow" "bestCell" (sn a0) (ss a0) 245 13716) (hS : ∀ σ, eSk E σ ↔ SkC σ) : ∀ (n : Nat) (s : St) (x1 : Int32) (x2 : Int32) (x3 : Int32) (x4 : Int64) (x6 : Int32), F_X0_bestCell_17   n s x1 x2 x3 x4 x6 = some (r, s') → J X E (sn a0) (ss a0) 10 (QR X E a0 (some (vi r)) s') s 17 [(0, vr (some 0)), (1, vi x1), (2, vi x2), (3, vi x3), (4, vl x4), (6, vi x6)] [] := by
  intro n
  induction n with
  | zero => intro s x1 x2 x3 x4 x6 h; exact absurd (show (none : Option (Int32 × St)) = _ from h) (by simp)
  | succ n ih =>
    intro s x1 x2 x3 x4 x6 h
    rw [F_X0_bestCell_17] at h
    refine r_iload (j := 5) B dX0_bestCell_17 rfl ?_
    refine r_bipush (v := 36) B dX0_bestCell_19 (by decide) ?_
    refine r_ic_ge (tgt := 115) B dX0_bestCell_21 (by decide) (fun cn1 => ?_) (fun cn1 => ?_)
    · have h := ot cn1 h
      refine r_iload_n (j := 3) B dX0_bestCell_115 rfl rfl ?_
      exact r_iret B dX0_bestCell_116 h
    · have h := of cn1 h
      refine r_aload_n (j := 0) B dX0_bestCell_24 rfl rfl ?_
      refine r_aload_n (j := 0) B dX0_bestCell_25 rfl rfl ?_
      refine g0 (k := 21) B (vr (some 28)) rfl (fun z => by rw [((hS _).1 z).1 0 (by decide)]; rfl) rfl q377 rfl (fun z => by rw [((hS _).1 z).2 _ (List.mem_of_getElem? (i := 14) rfl)]; rfl) dX0_bestCell_26 ?_
      refine r_iload (j := 5) B dX0_bestCell_29 rfl ?_
      obtain ⟨r2, s3, hc4, h⟩ := bnd_e h
      refine r_callVv (As := [vr (some 28), vi x6]) (rest := []) B rfl rfl EX.same (c_X0_whoIn B.ge hS hc4) (cw_X0_whoIn rfl rfl) (fun z => RV.of 0 (by rw [((hS _).1 z).1 0 (by decide)]; rfl) rfl rfl qs6) q559 q561 rfl dX0_bestCell_31 ?_
      refine r_istore (L' := [(0, vr (some 0)), (1, vi x1), (2, vi x2), (3, vi x3), (4, vl x4), (6, vi x6), (7, vi r2)]) B dX0_bestCell_34 (by decide) rfl rfl rfl ?_
      refine r_iload (j := 6) B dX0_bestCell_36 rfl ?_
      refine r_iconst (v := -1) B dX0_bestCell_38 (by decide) ?_
      refine r_ic_eq (tgt := 48) B dX0_bestCell_39 (by decide) (fun cn5 => ?_) (fun cn5 => ?_)
      · have h := ot cn5 h
        refine r_pick [0, 1, 2, 3, 4, 5] (L' := [(0, vr (some 0)), (1, vi x1), (2, vi x2), (3, vi x3), (4, vl x4), (6, vi x6)]) rfl ?_
        exact w_X0_bestCell_48 B hS (F_X0_bestCell_17  n) ih s3 x1 x2 x3 x4 x6 h
      · have h := of cn5 h
        refine r_iload (j := 6) B dX0_bestCell_42 rfl ?_
        refine r_iload_n (j := 1) B dX0_bestCell_44 rfl rfl ?_
        refine r_ic_ne (tgt := 109) B dX0_bestCell_45 (by decide) (fun cn6 => ?_) (fun cn6 => ?_)
        · have h := of cn6 h
          refine r_iinc (j := 5) (v := (x6 + (1))) (L' := [(0, vr (some 0)), (1, vi x1), (2, vi x2), (3, vi x3), (4, vl x4), (6, vi (x6 + (1))), (7, vi r2)]) B dX0_bestCell_109 rfl rfl (by decide) rfl rfl rfl ?_
          refine r_goto (tgt := 17) B dX0_bestCell_112 (by decide) ?_
          refine r_pick [0, 1, 2, 3, 4, 5] (L' := [(0, vr (some 0)), (1, vi x1), (2, vi x2), (3, vi x3), (4, vl x4), (6, vi (x6 + (1)))]) rfl ?_
          exact ih s3 x1 x2 x3 x4 (x6 + (1)) h
        · have h := ot cn6 h
          refine r_pick [0, 1, 2, 3, 4, 5] (L' := [(0, vr (some 0)), (1, vi x1), (2, vi x2), (3, vi x3), (4, vl x4), (6, vi x6)]) rfl ?_
          exact w_X0_bestCell_48 B hS (F_X0_bestCell_17  n) ih s3 x1 x2 x3 x4 x6 h
set_option maxHeartbeats 4000000 in
noncomputable def F_X0_bestCell (s : St) (p0 : Int32) : Option (Int32 × St) := gd (inb p0 6) <| F_X0_bestCell_17 FU s p0 (si s 28 p0.toNatClampNeg) (-1 : Int32) (-1 : Int64) (0 : Int32)
set_option maxHeartbeats 4000000 in
theorem c_X0_bestCell {l : Launch} {E : EV} (hE : GE E) (hS : ∀ σ, eSk E σ ↔ SkC σ) {s s' : St} {r : Int32} {p0 : Int32} (h : F_X0_bestCell  s p0 = some (r, s')) : CT l E yX0_bestCell cX0_bestCell 10 (some .int) 245 13716 [vr (some 0), vi p0] s (some (vi r)) s' := by
  refine CT.start hE (by decide) rfl [(0, vr (some 0)), (1, vi p0)] rfl (fun X hX B => ?_)
  skip
  have B : FX X E cX0_bestCell 10 (some .int) "RoseThrow" "bestCell" (sn s) (ss s) 245 13716 := B
  unfold F_X0_bestCell at h
  refine r_aload_n (j := 0) B dX0_bestCell_0 rfl rfl ?_
  refine g0 (k := 21) B (vr (some 28)) rfl (fun z => by rw [((hS _).1 z).1 0 (by decide)]; rfl) rfl q377 rfl (fun z => by rw [((hS _).1 z).2 _ (List.mem_of_getElem? (i := 14) rfl)]; rfl) dX0_bestCell_1 ?_
  refine r_iload_n (j := 1) B dX0_bestCell_4 rfl rfl ?_
  obtain ⟨hg1, h⟩ := gd_e h
  refine r_iald B rfl (fun z => ((hS _).1 z).1 28 (by decide)) hg1 dX0_bestCell_5 ?_
  refine r_istore_n (L' := [(0, vr (some 0)), (1, vi p0), (2, vi (si s 28 p0.toNatClampNeg))]) B dX0_bestCell_6 rfl (by decide) rfl rfl rfl ?_
  refine r_iconst (v := -1) B dX0_bestCell_7 (by decide) ?_
  refine r_istore_n (L' := [(0, vr (some 0)), (1, vi p0), (2, vi (si s 28 p0.toNatClampNeg)), (3, vi (-1 : Int32))]) B dX0_bestCell_8 rfl (by decide) rfl rfl rfl ?_
  refine r_ldc2 B dX0_bestCell_9 q575 ?_
  refine r_lstore (L' := [(0, vr (some 0)), (1, vi p0), (2, vi (si s 28 p0.toNatClampNeg)), (3, vi (-1 : Int32)), (4, vl (-1 : Int64))]) B dX0_bestCell_12 (by decide) rfl rfl rfl ?_
  refine r_iconst (v := 0) B dX0_bestCell_14 (by decide) ?_
  refine r_istore (L' := [(0, vr (some 0)), (1, vi p0), (2, vi (si s 28 p0.toNatClampNeg)), (3, vi (-1 : Int32)), (4, vl (-1 : Int64)), (6, vi (0 : Int32))]) B dX0_bestCell_15 (by decide) rfl rfl rfl ?_
  exact w_X0_bestCell_17 B hS FU s p0 (si s 28 p0.toNatClampNeg) (-1 : Int32) (-1 : Int64) (0 : Int32) h
set_option maxHeartbeats 4000000 in
theorem cw_X0_bestCell {X : CX} {fr lo : Nat} (h1 : Nat.ble (245 + 1) fr = true) (h2 : Nat.ble (29 + 13716) lo = true) : CW X fr lo yX0_bestCell cX0_bestCell 10 (some .int) 245 13716 1 := ⟨q1325, q126, ⟨by decide +kernel, by decide +kernel, by decide +kernel⟩, Nat.le_of_ble_eq_true h1, Nat.le_of_ble_eq_true h2⟩

set_option maxHeartbeats 4000000 in
noncomputable def F_X0_stand_44 (s : St) (x3 : Int32) : Option (Int64 × St) := some (((x3).toInt64), s)
set_option maxHeartbeats 4000000 in
theorem w_X0_stand_44 {X : CX} {E : EV} {a0 s' : St} {r : Int64} (B : FX X E cX0_stand 4 (some .long) "RoseThrow" "stand" (sn a0) (ss a0) 246 13745) (hS : ∀ σ, eSk E σ ↔ SkC σ) (s : St) (x3 : Int32) (h : F_X0_stand_44   s x3 = some (r, s')) : J X E (sn a0) (ss a0) 4 (QR X E a0 (some (vl r)) s') s 44 [(3, vi x3)] [] := by
  unfold F_X0_stand_44 at h
  refine r_iload_n (j := 0) B dX0_stand_44 rfl rfl ?_
  refine r_i2l B dX0_stand_45 ?_
  exact r_lret B dX0_stand_46 h
set_option maxHeartbeats 4000000 in
noncomputable def F_X0_stand_84 (s : St) (z0 : Int32) (z1 : Int64) (z2 : Int64) : Option (Int64 × St) := bnd (F_X0_tells s z2 z1 z0) fun r1 s2 => some (r1, s2)
set_option maxHeartbeats 4000000 in
theorem w_X0_stand_84 {X : CX} {E : EV} {a0 s' : St} {r : Int64} (B : FX X E cX0_stand 4 (some .long) "RoseThrow" "stand" (sn a0) (ss a0) 246 13745) (hS : ∀ σ, eSk E σ ↔ SkC σ) (s : St) (z0 : Int32) (z1 : Int64) (z2 : Int64) (h : F_X0_stand_84   s z0 z1 z2 = some (r, s')) : J X E (sn a0) (ss a0) 4 (QR X E a0 (some (vl r)) s') s 84 [] [vi z0, vl z1, vl z2] := by
  unfold F_X0_stand_84 at h
  obtain ⟨r1, s2, hc3, h⟩ := bnd_e h
  refine r_callSv (As := [vl z2, vl z1, vi z0]) (rest := []) B rfl EX.same (c_X0_tells B.ge hS hc3) (cw_X0_tells rfl rfl) q1281 q1282 rfl dX0_stand_84 ?_
  exact r_lret B dX0_stand_87 h
set_option maxHeartbeats 4000000 in
noncomputable def F_X0_stand (s : St) (p0 : Int32) (p1 : Int32) : Option (Int64 × St) := bnd (F_X0_isCatcher s p0) fun r1 s2 => if r1 = 0 then (some ((-1 : Int64), s2)) else (bnd (F_X0_in s2 p1 (0 : Int32) (2 : Int32)) fun r5 s6 => if r5 = 0 then (some ((-1 : Int64), s6)) else (bnd (F_X0_looks s6) fun _ s10 => bnd (F_X0_copies s10) fun _ s13 => bnd (F_X0_bestCell s13 p0) fun r15 s16 => if r15 = (-1 : Int32) then (F_X0_stand_44 s16 r15) else (if p1 = 0 then (F_X0_stand_44 s16 r15) else (gd (inb p0 6) <| nam (setI s16 28 p0.toNatClampNeg r15) fun s21 => bnd (F_X0_chance s21 p0 (some 23) (some 28)) fun r23 s24 => bnd (F_X4_lower s24 23) fun r26 s27 => if p1 = (1 : Int32) then (F_X0_stand_84 s27 (1 : Int32) r26 r23) else (F_X0_stand_84 s27 (0 : Int32) r26 r23)))))
set_option maxHeartbeats 4000000 in
theorem c_X0_stand {l : Launch} {E : EV} (hE : GE E) (hS : ∀ σ, eSk E σ ↔ SkC σ) {s s' : St} {r : Int64} {p0 : Int32} {p1 : Int32} (h : F_X0_stand  s p0 p1 = some (r, s')) : CT l E yX0_stand cX0_stand 4 (some .long) 246 13745 [vr (some 0), vi p0, vi p1] s (some (vl r)) s' := by
  refine CT.start hE (by decide) rfl [(0, vr (some 0)), (1, vi p0), (2, vi p1)] rfl (fun X hX B => ?_)
  skip
  have B : FX X E cX0_stand 4 (some .long) "RoseThrow" "stand" (sn s) (ss s) 246 13745 := B
  unfold F_X0_stand at h
  refine r_aload_n (j := 0) B dX0_stand_0 rfl rfl ?_
  refine r_iload_n (j := 1) B dX0_stand_1 rfl rfl ?_
  obtain ⟨r1, s2, hc3, h⟩ := bnd_e h
  refine r_callVv (As := [vi p0]) (rest := []) B rfl rfl EX.same (c_X0_isCatcher B.ge hS hc3) (cw_X0_isCatcher rfl rfl) (fun z => RV.of 0 (by rw [((hS _).1 z).1 0 (by decide)]; rfl) rfl rfl qs12) q654 q656 rfl dX0_stand_2 ?_
  refine r_if_eq (tgt := 17) B dX0_stand_5 (by decide) (fun cn4 => ?_) (fun cn4 => ?_)
  · have h := ot cn4 h
    refine r_ldc2 B dX0_stand_17 q575 ?_
    exact r_lret B dX0_stand_20 h
  · have h := of cn4 h
    refine r_iload_n (j := 2) B dX0_stand_8 rfl rfl ?_
    refine r_iconst (v := 0) B dX0_stand_9 (by decide) ?_
    refine r_iconst (v := 2) B dX0_stand_10 (by decide) ?_
    obtain ⟨r5, s6, hc7, h⟩ := bnd_e h
    refine r_callSv (As := [vi p1, vi (0 : Int32), vi (2 : Int32)]) (rest := []) B rfl EX.same (c_X0_in B.ge hS hc7) (cw_X0_in rfl rfl) q445 q446 rfl dX0_stand_11 ?_
    refine r_if_ne (tgt := 21) B dX0_stand_14 (by decide) (fun cn8 => ?_) (fun cn8 => ?_)
    · have h := of cn8 h
      refine r_aload_n (j := 0) B dX0_stand_21 rfl rfl ?_
      obtain ⟨r9, s10, hc11, h⟩ := bnd_e h
      refine r_callV0 (As := []) (rest := []) B rfl rfl EX.same (c_X0_looks B.ge hS hc11) (cw_X0_looks rfl rfl) (fun z => RV.of 0 (by rw [((hS _).1 z).1 0 (by decide)]; rfl) rfl rfl qs26) q1253 q1255 rfl dX0_stand_22 ?_
      refine r_aload_n (j := 0) B dX0_stand_25 rfl rfl ?_
      obtain ⟨r12, s13, hc14, h⟩ := bnd_e h
      refine r_callV0 (As := []) (rest := []) B rfl rfl EX.same (c_X0_copies B.ge hS hc14) (cw_X0_copies rfl rfl) (fun z => RV.of 0 (by rw [((hS _).1 z).1 0 (by decide)]; rfl) rfl rfl qs33) q1318 q1320 rfl dX0_stand_26 ?_
      refine r_aload_n (j := 0) B dX0_stand_29 rfl rfl ?_
      refine r_iload_n (j := 1) B dX0_stand_30 rfl rfl ?_
      obtain ⟨r15, s16, hc17, h⟩ := bnd_e h
      refine r_callVv (As := [vi p0]) (rest := []) B rfl rfl EX.same (c_X0_bestCell B.ge hS hc17) (cw_X0_bestCell rfl rfl) (fun z => RV.of 0 (by rw [((hS _).1 z).1 0 (by decide)]; rfl) rfl rfl qs34) q1322 q1324 rfl dX0_stand_31 ?_
      refine r_istore_n (L' := [(0, vr (some 0)), (1, vi p0), (2, vi p1), (3, vi r15)]) B dX0_stand_34 rfl (by decide) rfl rfl rfl ?_
      refine r_iload_n (j := 3) B dX0_stand_35 rfl rfl ?_
      refine r_iconst (v := -1) B dX0_stand_36 (by decide) ?_
      refine r_ic_eq (tgt := 44) B dX0_stand_37 (by decide) (fun cn18 => ?_) (fun cn18 => ?_)
      · have h := ot cn18 h
        refine r_pick [3] (L' := [(3, vi r15)]) rfl ?_
        exact w_X0_stand_44 B hS s16 r15 h
      · have h := of cn18 h
        refine r_iload_n (j := 2) B dX0_stand_40 rfl rfl ?_
        refine r_if_ne (tgt := 47) B dX0_stand_41 (by decide) (fun cn19 => ?_) (fun cn19 => ?_)
        · have h := of cn19 h
          refine r_aload_n (j := 0) B dX0_stand_47 rfl rfl ?_
          refine g0 (k := 21) B (vr (some 28)) rfl (fun z => by rw [((hS _).1 z).1 0 (by decide)]; rfl) rfl q377 rfl (fun z => by rw [((hS _).1 z).2 _ (List.mem_of_getElem? (i := 14) rfl)]; rfl) dX0_stand_48 ?_
          refine r_iload_n (j := 1) B dX0_stand_51 rfl rfl ?_
          refine r_iload_n (j := 3) B dX0_stand_52 rfl rfl ?_
          obtain ⟨hg20, h⟩ := gd_e h
          obtain ⟨s21, e22, h⟩ := nam_e h
          refine r_iast B e22 rfl (fun z => ((hS _).1 z).1 28 (by decide)) hg20 dX0_stand_53 ?_
          refine r_aload_n (j := 0) B dX0_stand_54 rfl rfl ?_
          refine r_iload_n (j := 1) B dX0_stand_55 rfl rfl ?_
          refine r_aload_n (j := 0) B dX0_stand_56 rfl rfl ?_
          refine g0 (k := 17) B (vr (some 23)) rfl (fun z => by rw [((hS _).1 z).1 0 (by decide)]; rfl) rfl q373 rfl (fun z => by rw [((hS _).1 z).2 _ (List.mem_of_getElem? (i := 11) rfl)]; rfl) dX0_stand_57 ?_
          refine r_aload_n (j := 0) B dX0_stand_60 rfl rfl ?_
          refine g0 (k := 21) B (vr (some 28)) rfl (fun z => by rw [((hS _).1 z).1 0 (by decide)]; rfl) rfl q377 rfl (fun z => by rw [((hS _).1 z).2 _ (List.mem_of_getElem? (i := 14) rfl)]; rfl) dX0_stand_61 ?_
          obtain ⟨r23, s24, hc25, h⟩ := bnd_e h
          refine r_callVv (As := [vi p0, vr (some 23), vr (some 28)]) (rest := []) B rfl rfl EX.same (c_X0_chance B.ge hS hc25) (cw_X0_chance rfl rfl) (fun z => RV.of 0 (by rw [((hS _).1 z).1 0 (by decide)]; rfl) rfl rfl qs30) q1291 q1293 rfl dX0_stand_64 ?_
          refine r_aload_n (j := 0) B dX0_stand_67 rfl rfl ?_
          refine g0 (k := 17) B (vr (some 23)) rfl (fun z => by rw [((hS _).1 z).1 0 (by decide)]; rfl) rfl q373 rfl (fun z => by rw [((hS _).1 z).2 _ (List.mem_of_getElem? (i := 11) rfl)]; rfl) dX0_stand_68 ?_
          obtain ⟨r26, s27, hc28, h⟩ := bnd_e h
          refine r_callVv (As := []) (rest := [vl r23]) B rfl rfl EX.same (c_X4_lower B.ge hS hc28) (cw_X4_lower rfl rfl) (fun z => RV.of 4 ((fun z => by rw [((hS _).1 z).1 23 (by decide)]; rfl) z) rfl rfl q1311) q1309 q1310 rfl dX0_stand_71 ?_
          refine r_iload_n (j := 2) B dX0_stand_74 rfl rfl ?_
          refine r_iconst (v := 1) B dX0_stand_75 (by decide) ?_
          refine r_ic_ne (tgt := 83) B dX0_stand_76 (by decide) (fun cn29 => ?_) (fun cn29 => ?_)
          · have h := of cn29 h
            refine r_iconst (v := 0) B dX0_stand_83 (by decide) ?_
            refine r_pick [] (L' := []) rfl ?_
            exact w_X0_stand_84 B hS s27 (0 : Int32) r26 r23 h
          · have h := ot cn29 h
            refine r_iconst (v := 1) B dX0_stand_79 (by decide) ?_
            refine r_goto (tgt := 84) B dX0_stand_80 (by decide) ?_
            refine r_pick [] (L' := []) rfl ?_
            exact w_X0_stand_84 B hS s27 (1 : Int32) r26 r23 h
        · have h := ot cn19 h
          refine r_pick [3] (L' := [(3, vi r15)]) rfl ?_
          exact w_X0_stand_44 B hS s16 r15 h
    · have h := ot cn8 h
      refine r_ldc2 B dX0_stand_17 q575 ?_
      exact r_lret B dX0_stand_20 h
set_option maxHeartbeats 4000000 in
theorem cw_X0_stand {X : CX} {fr lo : Nat} (h1 : Nat.ble (246 + 1) fr = true) (h2 : Nat.ble (23 + 13745) lo = true) : CW X fr lo yX0_stand cX0_stand 4 (some .long) 246 13745 2 := ⟨q1317, q126, ⟨by decide +kernel, by decide +kernel, by decide +kernel⟩, Nat.le_of_ble_eq_true h1, Nat.le_of_ble_eq_true h2⟩

set_option maxHeartbeats 4000000 in
noncomputable def F_X0_goesBest (s : St) (p0 : Int32) : Option (Int32 × St) := bnd (F_X0_bestCell s p0) fun r1 s2 => if r1 = (-1 : Int32) then (some ((0 : Int32), s2)) else (bnd (F_X0_chance s2 p0 (some 23) (some 28)) fun r5 s6 => gd (inb p0 6) <| gd (inb p0 6) <| nam (setI s6 28 p0.toNatClampNeg r1) fun s10 => bnd (F_X0_chance s10 p0 (some 23) (some 28)) fun r12 s13 => if r12 ≤ r5 then (gd (inb p0 6) <| nam (setI s13 28 p0.toNatClampNeg (si s6 28 p0.toNatClampNeg)) fun s17 => some ((0 : Int32), s17)) else (some ((1 : Int32), s13)))
set_option maxHeartbeats 4000000 in
theorem c_X0_goesBest {l : Launch} {E : EV} (hE : GE E) (hS : ∀ σ, eSk E σ ↔ SkC σ) {s s' : St} {r : Int32} {p0 : Int32} (h : F_X0_goesBest  s p0 = some (r, s')) : CT l E yX0_goesBest cX0_goesBest 6 (some .boolean) 246 13745 [vr (some 0), vi p0] s (some (vi r)) s' := by
  refine CT.start hE (by decide) rfl [(0, vr (some 0)), (1, vi p0)] rfl (fun X hX B => ?_)
  skip
  have B : FX X E cX0_goesBest 6 (some .boolean) "RoseThrow" "goesBest" (sn s) (ss s) 246 13745 := B
  unfold F_X0_goesBest at h
  refine r_aload_n (j := 0) B dX0_goesBest_0 rfl rfl ?_
  refine r_iload_n (j := 1) B dX0_goesBest_1 rfl rfl ?_
  obtain ⟨r1, s2, hc3, h⟩ := bnd_e h
  refine r_callVv (As := [vi p0]) (rest := []) B rfl rfl EX.same (c_X0_bestCell B.ge hS hc3) (cw_X0_bestCell rfl rfl) (fun z => RV.of 0 (by rw [((hS _).1 z).1 0 (by decide)]; rfl) rfl rfl qs34) q1322 q1324 rfl dX0_goesBest_2 ?_
  refine r_istore_n (L' := [(0, vr (some 0)), (1, vi p0), (2, vi r1)]) B dX0_goesBest_5 rfl (by decide) rfl rfl rfl ?_
  refine r_iload_n (j := 2) B dX0_goesBest_6 rfl rfl ?_
  refine r_iconst (v := -1) B dX0_goesBest_7 (by decide) ?_
  refine r_ic_ne (tgt := 13) B dX0_goesBest_8 (by decide) (fun cn4 => ?_) (fun cn4 => ?_)
  · have h := of cn4 h
    refine r_aload_n (j := 0) B dX0_goesBest_13 rfl rfl ?_
    refine r_iload_n (j := 1) B dX0_goesBest_14 rfl rfl ?_
    refine r_aload_n (j := 0) B dX0_goesBest_15 rfl rfl ?_
    refine g0 (k := 17) B (vr (some 23)) rfl (fun z => by rw [((hS _).1 z).1 0 (by decide)]; rfl) rfl q373 rfl (fun z => by rw [((hS _).1 z).2 _ (List.mem_of_getElem? (i := 11) rfl)]; rfl) dX0_goesBest_16 ?_
    refine r_aload_n (j := 0) B dX0_goesBest_19 rfl rfl ?_
    refine g0 (k := 21) B (vr (some 28)) rfl (fun z => by rw [((hS _).1 z).1 0 (by decide)]; rfl) rfl q377 rfl (fun z => by rw [((hS _).1 z).2 _ (List.mem_of_getElem? (i := 14) rfl)]; rfl) dX0_goesBest_20 ?_
    obtain ⟨r5, s6, hc7, h⟩ := bnd_e h
    refine r_callVv (As := [vi p0, vr (some 23), vr (some 28)]) (rest := []) B rfl rfl EX.same (c_X0_chance B.ge hS hc7) (cw_X0_chance rfl rfl) (fun z => RV.of 0 (by rw [((hS _).1 z).1 0 (by decide)]; rfl) rfl rfl qs30) q1291 q1293 rfl dX0_goesBest_23 ?_
    refine r_lstore_n (L' := [(0, vr (some 0)), (1, vi p0), (2, vi r1), (3, vl r5)]) B dX0_goesBest_26 rfl (by decide) rfl rfl rfl ?_
    refine r_aload_n (j := 0) B dX0_goesBest_27 rfl rfl ?_
    refine g0 (k := 21) B (vr (some 28)) rfl (fun z => by rw [((hS _).1 z).1 0 (by decide)]; rfl) rfl q377 rfl (fun z => by rw [((hS _).1 z).2 _ (List.mem_of_getElem? (i := 14) rfl)]; rfl) dX0_goesBest_28 ?_
    refine r_iload_n (j := 1) B dX0_goesBest_31 rfl rfl ?_
    obtain ⟨hg8, h⟩ := gd_e h
    refine r_iald B rfl (fun z => ((hS _).1 z).1 28 (by decide)) hg8 dX0_goesBest_32 ?_
    refine r_istore (L' := [(0, vr (some 0)), (1, vi p0), (2, vi r1), (3, vl r5), (5, vi (si s6 28 p0.toNatClampNeg))]) B dX0_goesBest_33 (by decide) rfl rfl rfl ?_
    refine r_aload_n (j := 0) B dX0_goesBest_35 rfl rfl ?_
    refine g0 (k := 21) B (vr (some 28)) rfl (fun z => by rw [((hS _).1 z).1 0 (by decide)]; rfl) rfl q377 rfl (fun z => by rw [((hS _).1 z).2 _ (List.mem_of_getElem? (i := 14) rfl)]; rfl) dX0_goesBest_36 ?_
    refine r_iload_n (j := 1) B dX0_goesBest_39 rfl rfl ?_
    refine r_iload_n (j := 2) B dX0_goesBest_40 rfl rfl ?_
    obtain ⟨hg9, h⟩ := gd_e h
    obtain ⟨s10, e11, h⟩ := nam_e h
    refine r_iast B e11 rfl (fun z => ((hS _).1 z).1 28 (by decide)) hg9 dX0_goesBest_41 ?_
    refine r_aload_n (j := 0) B dX0_goesBest_42 rfl rfl ?_
    refine r_iload_n (j := 1) B dX0_goesBest_43 rfl rfl ?_
    refine r_aload_n (j := 0) B dX0_goesBest_44 rfl rfl ?_
    refine g0 (k := 17) B (vr (some 23)) rfl (fun z => by rw [((hS _).1 z).1 0 (by decide)]; rfl) rfl q373 rfl (fun z => by rw [((hS _).1 z).2 _ (List.mem_of_getElem? (i := 11) rfl)]; rfl) dX0_goesBest_45 ?_
    refine r_aload_n (j := 0) B dX0_goesBest_48 rfl rfl ?_
    refine g0 (k := 21) B (vr (some 28)) rfl (fun z => by rw [((hS _).1 z).1 0 (by decide)]; rfl) rfl q377 rfl (fun z => by rw [((hS _).1 z).2 _ (List.mem_of_getElem? (i := 14) rfl)]; rfl) dX0_goesBest_49 ?_
    obtain ⟨r12, s13, hc14, h⟩ := bnd_e h
    refine r_callVv (As := [vi p0, vr (some 23), vr (some 28)]) (rest := []) B rfl rfl EX.same (c_X0_chance B.ge hS hc14) (cw_X0_chance rfl rfl) (fun z => RV.of 0 (by rw [((hS _).1 z).1 0 (by decide)]; rfl) rfl rfl qs30) q1291 q1293 rfl dX0_goesBest_52 ?_
    refine r_lload_n (j := 3) B dX0_goesBest_55 rfl rfl ?_
    refine r_lcmp B dX0_goesBest_56 ?_
    refine r_if_le (tgt := 62) B dX0_goesBest_57 (by decide) (fun cn15 => ?_) (fun cn15 => ?_)
    · have h := ot (lc_le.mp cn15) h
      refine r_aload_n (j := 0) B dX0_goesBest_62 rfl rfl ?_
      refine g0 (k := 21) B (vr (some 28)) rfl (fun z => by rw [((hS _).1 z).1 0 (by decide)]; rfl) rfl q377 rfl (fun z => by rw [((hS _).1 z).2 _ (List.mem_of_getElem? (i := 14) rfl)]; rfl) dX0_goesBest_63 ?_
      refine r_iload_n (j := 1) B dX0_goesBest_66 rfl rfl ?_
      refine r_iload (j := 4) B dX0_goesBest_67 rfl ?_
      obtain ⟨hg16, h⟩ := gd_e h
      obtain ⟨s17, e18, h⟩ := nam_e h
      refine r_iast B e18 rfl (fun z => ((hS _).1 z).1 28 (by decide)) hg16 dX0_goesBest_69 ?_
      refine r_iconst (v := 0) B dX0_goesBest_70 (by decide) ?_
      exact r_zret B dX0_goesBest_71 (by decide) h
    · have h := of (fun z => cn15 (lc_le.mpr z)) h
      refine r_iconst (v := 1) B dX0_goesBest_60 (by decide) ?_
      exact r_zret B dX0_goesBest_61 (by decide) h
  · have h := ot cn4 h
    refine r_iconst (v := 0) B dX0_goesBest_11 (by decide) ?_
    exact r_zret B dX0_goesBest_12 (by decide) h
set_option maxHeartbeats 4000000 in
theorem cw_X0_goesBest {X : CX} {fr lo : Nat} (h1 : Nat.ble (246 + 1) fr = true) (h2 : Nat.ble (25 + 13745) lo = true) : CW X fr lo yX0_goesBest cX0_goesBest 6 (some .boolean) 246 13745 1 := ⟨q1333, q126, ⟨by decide +kernel, by decide +kernel, by decide +kernel⟩, Nat.le_of_ble_eq_true h1, Nat.le_of_ble_eq_true h2⟩

set_option maxHeartbeats 4000000 in
noncomputable def F_X0_rests_76 (k25 : St → Int32 → Int32 → Option (Int32 × St)) (k36 : St → Int32 → Int32 → Int32 → Int32 → Option (Int32 × St)) (s : St) (x1 : Int32) (x2 : Int32) (x4 : Int32) (z0 : Int32) (z1 : Int32) : Option (Int32 × St) := k36 s x1 x2 (z1 ||| z0) (x4 + (1))
set_option maxHeartbeats 4000000 in
theorem w_X0_rests_76 {X : CX} {E : EV} {a0 s' : St} {r : Int32} (B : FX X E cX0_rests 5 (some .int) "RoseThrow" "rests" (sn a0) (ss a0) 247 13770) (hS : ∀ σ, eSk E σ ↔ SkC σ) (k25 : St → Int32 → Int32 → Option (Int32 × St)) (k36 : St → Int32 → Int32 → Int32 → Int32 → Option (Int32 × St)) (hk25 : ∀ (s : St) (x1 : Int32) (x2 : Int32), k25 s x1 x2 = some (r, s') → J X E (sn a0) (ss a0) 5 (QR X E a0 (some (vi r)) s') s 25 [(0, vr (some 0)), (1, vi x1), (2, vi x2)] []) (hk36 : ∀ (s : St) (x1 : Int32) (x2 : Int32) (x3 : Int32) (x4 : Int32), k36 s x1 x2 x3 x4 = some (r, s') → J X E (sn a0) (ss a0) 5 (QR X E a0 (some (vi r)) s') s 36 [(0, vr (some 0)), (1, vi x1), (2, vi x2), (3, vi x3), (4, vi x4)] []) (s : St) (x1 : Int32) (x2 : Int32) (x4 : Int32) (z0 : Int32) (z1 : Int32) (h : F_X0_rests_76  k25 k36 s x1 x2 x4 z0 z1 = some (r, s')) : J X E (sn a0) (ss a0) 5 (QR X E a0 (some (vi r)) s') s 76 [(0, vr (some 0)), (1, vi x1), (2, vi x2), (4, vi x4)] [vi z0, vi z1] := by
  unfold F_X0_rests_76 at h
  refine r_ior B dX0_rests_76 ?_
  refine r_istore_n (L' := [(0, vr (some 0)), (1, vi x1), (2, vi x2), (3, vi (z1 ||| z0)), (4, vi x4)]) B dX0_rests_77 rfl (by decide) rfl rfl rfl ?_
  refine r_iinc (j := 4) (v := (x4 + (1))) (L' := [(0, vr (some 0)), (1, vi x1), (2, vi x2), (3, vi (z1 ||| z0)), (4, vi (x4 + (1)))]) B dX0_rests_78 rfl rfl (by decide) rfl rfl rfl ?_
  refine r_goto (tgt := 36) B dX0_rests_81 (by decide) ?_
  exact hk36 s x1 x2 (z1 ||| z0) (x4 + (1)) h
set_option maxHeartbeats 4000000 in
noncomputable def F_X0_rests_75 (k25 : St → Int32 → Int32 → Option (Int32 × St)) (k36 : St → Int32 → Int32 → Int32 → Int32 → Option (Int32 × St)) (s : St) (x1 : Int32) (x2 : Int32) (x4 : Int32) (z0 : Int32) : Option (Int32 × St) := F_X0_rests_76 k25 k36 s x1 x2 x4 (0 : Int32) z0
set_option maxHeartbeats 4000000 in
theorem w_X0_rests_75 {X : CX} {E : EV} {a0 s' : St} {r : Int32} (B : FX X E cX0_rests 5 (some .int) "RoseThrow" "rests" (sn a0) (ss a0) 247 13770) (hS : ∀ σ, eSk E σ ↔ SkC σ) (k25 : St → Int32 → Int32 → Option (Int32 × St)) (k36 : St → Int32 → Int32 → Int32 → Int32 → Option (Int32 × St)) (hk25 : ∀ (s : St) (x1 : Int32) (x2 : Int32), k25 s x1 x2 = some (r, s') → J X E (sn a0) (ss a0) 5 (QR X E a0 (some (vi r)) s') s 25 [(0, vr (some 0)), (1, vi x1), (2, vi x2)] []) (hk36 : ∀ (s : St) (x1 : Int32) (x2 : Int32) (x3 : Int32) (x4 : Int32), k36 s x1 x2 x3 x4 = some (r, s') → J X E (sn a0) (ss a0) 5 (QR X E a0 (some (vi r)) s') s 36 [(0, vr (some 0)), (1, vi x1), (2, vi x2), (3, vi x3), (4, vi x4)] []) (s : St) (x1 : Int32) (x2 : Int32) (x4 : Int32) (z0 : Int32) (h : F_X0_rests_75  k25 k36 s x1 x2 x4 z0 = some (r, s')) : J X E (sn a0) (ss a0) 5 (QR X E a0 (some (vi r)) s') s 75 [(0, vr (some 0)), (1, vi x1), (2, vi x2), (4, vi x4)] [vi z0] := by
  unfold F_X0_rests_75 at h
  refine r_iconst (v := 0) B dX0_rests_75 (by decide) ?_
  exact w_X0_rests_76 B hS k25 k36 hk25 hk36 s x1 x2 x4 (0 : Int32) z0 h
set_option maxHeartbeats 4000000 in
noncomputable def F_X0_rests_36 (k25 : St → Int32 → Int32 → Option (Int32 × St)) : Nat → St → Int32 → Int32 → Int32 → Int32 → Option (Int32 × St)
  | 0 => fun _ _ _ _ _ => none
  | n + 1 => fun s x1 x2 x3 x4 => if (si s 2 8) ≤ x4 then (if x3 = 0 then (if x1 = (-1 : Int32) then (some (x2, s)) else (gd (inb x1 6) <| some ((si s 28 x1.toNatClampNeg), s))) else (k25 s x1 (x2 + (1)))) else (gd (inb x4 6) <| if (si s 5 x4.toNatClampNeg) ≤ 0 then (F_X0_rests_75 k25 (F_X0_rests_36 k25 n) s x1 x2 x4 x3) else (bnd (F_X0_goesBest s x4) fun r7 s8 => if r7 = 0 then (F_X0_rests_75 k25 (F_X0_rests_36 k25 n) s8 x1 x2 x4 x3) else (F_X0_rests_76 k25 (F_X0_rests_36 k25 n) s8 x1 x2 x4 (1 : Int32) x3)))
set_option maxHeartbeats 4000000 in
theorem w_X0_rests_36 {X : CX} {E : EV} {a0 s' : St} {r : Int32} (B : FX X E cX0_rests 5 (some .int) "RoseThrow" "rests" (sn a0) (ss a0) 247 13770) (hS : ∀ σ, eSk E σ ↔ SkC σ) (k25 : St → Int32 → Int32 → Option (Int32 × St)) (hk25 : ∀ (s : St) (x1 : Int32) (x2 : Int32), k25 s x1 x2 = some (r, s') → J X E (sn a0) (ss a0) 5 (QR X E a0 (some (vi r)) s') s 25 [(0, vr (some 0)), (1, vi x1), (2, vi x2)] []) : ∀ (n : Nat) (s : St) (x1 : Int32) (x2 : Int32) (x3 : Int32) (x4 : Int32), F_X0_rests_36  k25 n s x1 x2 x3 x4 = some (r, s') → J X E (sn a0) (ss a0) 5 (QR X E a0 (some (vi r)) s') s 36 [(0, vr (some 0)), (1, vi x1), (2, vi x2), (3, vi x3), (4, vi x4)] [] := by
  intro n
  induction n with
  | zero => intro s x1 x2 x3 x4 h; exact absurd (show (none : Option (Int32 × St)) = _ from h) (by simp)
  | succ n ih =>
    intro s x1 x2 x3 x4 h
    rw [F_X0_rests_36] at h
    refine r_iload (j := 4) B dX0_rests_36 rfl ?_
    refine r_aload_n (j := 0) B dX0_rests_38 rfl rfl ?_
    refine g0 (k := 2) B (vr (some 2)) rfl (fun z => by rw [((hS _).1 z).1 0 (by decide)]; rfl) rfl q358 rfl (fun z => by rw [((hS _).1 z).2 _ (List.mem_of_getElem? (i := 1) rfl)]; rfl) dX0_rests_39 ?_
    refine g1N (k := 8) B (vi (si s 2 8)) rfl (fun z => by rw [((hS _).1 z).1 2 (by decide)]; rfl) rfl (lw_n q222 rfl) rfl (fun _ => rfl) dX0_rests_42 ?_
    refine r_ic_ge (tgt := 84) B dX0_rests_45 (by decide) (fun cn1 => ?_) (fun cn1 => ?_)
    · have h := ot cn1 h
      refine r_iload_n (j := 3) B dX0_rests_84 rfl rfl ?_
      refine r_if_ne (tgt := 104) B dX0_rests_85 (by decide) (fun cn2 => ?_) (fun cn2 => ?_)
      · have h := of cn2 h
        refine r_iinc (j := 2) (v := (x2 + (1))) (L' := [(0, vr (some 0)), (1, vi x1), (2, vi (x2 + (1))), (3, vi x3), (4, vi x4)]) B dX0_rests_104 rfl rfl (by decide) rfl rfl rfl ?_
        refine r_goto (tgt := 25) B dX0_rests_107 (by decide) ?_
        refine r_pick [0, 1, 2] (L' := [(0, vr (some 0)), (1, vi x1), (2, vi (x2 + (1)))]) rfl ?_
        exact hk25 s x1 (x2 + (1)) h
      · have h := ot cn2 h
        refine r_iload_n (j := 1) B dX0_rests_88 rfl rfl ?_
        refine r_iconst (v := -1) B dX0_rests_89 (by decide) ?_
        refine r_ic_ne (tgt := 97) B dX0_rests_90 (by decide) (fun cn3 => ?_) (fun cn3 => ?_)
        · have h := of cn3 h
          refine r_aload_n (j := 0) B dX0_rests_97 rfl rfl ?_
          refine g0 (k := 21) B (vr (some 28)) rfl (fun z => by rw [((hS _).1 z).1 0 (by decide)]; rfl) rfl q377 rfl (fun z => by rw [((hS _).1 z).2 _ (List.mem_of_getElem? (i := 14) rfl)]; rfl) dX0_rests_98 ?_
          refine r_iload_n (j := 1) B dX0_rests_101 rfl rfl ?_
          obtain ⟨hg4, h⟩ := gd_e h
          refine r_iald B rfl (fun z => ((hS _).1 z).1 28 (by decide)) hg4 dX0_rests_102 ?_
          exact r_iret B dX0_rests_103 h
        · have h := ot cn3 h
          refine r_iload_n (j := 2) B dX0_rests_93 rfl rfl ?_
          refine r_goto (tgt := 103) B dX0_rests_94 (by decide) ?_
          exact r_iret B dX0_rests_103 h
    · have h := of cn1 h
      refine r_iload_n (j := 3) B dX0_rests_48 rfl rfl ?_
      refine r_aload_n (j := 0) B dX0_rests_49 rfl rfl ?_
      refine g0 (k := 2) B (vr (some 2)) rfl (fun z => by rw [((hS _).1 z).1 0 (by decide)]; rfl) rfl q358 rfl (fun z => by rw [((hS _).1 z).2 _ (List.mem_of_getElem? (i := 1) rfl)]; rfl) dX0_rests_50 ?_
      refine g1N (k := 2) B (vr (some 5)) rfl (fun z => by rw [((hS _).1 z).1 2 (by decide)]; rfl) rfl (lw_n q210 rfl) rfl (fun z => by rw [((hS _).1 z).2 _ (List.mem_of_getElem? (i := 19) rfl)]; rfl) dX0_rests_53 ?_
      refine r_iload (j := 4) B dX0_rests_56 rfl ?_
      obtain ⟨hg5, h⟩ := gd_e h
      refine r_iald B rfl (fun z => ((hS _).1 z).1 5 (by decide)) hg5 dX0_rests_58 ?_
      refine r_if_le (tgt := 75) B dX0_rests_59 (by decide) (fun cn6 => ?_) (fun cn6 => ?_)
      · have h := ot cn6 h
        refine r_pick [0, 1, 2, 4] (L' := [(0, vr (some 0)), (1, vi x1), (2, vi x2), (4, vi x4)]) rfl ?_
        exact w_X0_rests_75 B hS k25 (F_X0_rests_36 k25 n) hk25 ih s x1 x2 x4 x3 h
      · have h := of cn6 h
        refine r_aload_n (j := 0) B dX0_rests_62 rfl rfl ?_
        refine r_iload (j := 4) B dX0_rests_63 rfl ?_
        obtain ⟨r7, s8, hc9, h⟩ := bnd_e h
        refine r_callVv (As := [vi x4]) (rest := [vi x3]) B rfl rfl EX.same (c_X0_goesBest B.ge hS hc9) (cw_X0_goesBest rfl rfl) (fun z => RV.of 0 (by rw [((hS _).1 z).1 0 (by decide)]; rfl) rfl rfl qs35) q1330 q1332 rfl dX0_rests_65 ?_
        refine r_if_eq (tgt := 75) B dX0_rests_68 (by decide) (fun cn10 => ?_) (fun cn10 => ?_)
        · have h := ot cn10 h
          refine r_pick [0, 1, 2, 4] (L' := [(0, vr (some 0)), (1, vi x1), (2, vi x2), (4, vi x4)]) rfl ?_
          exact w_X0_rests_75 B hS k25 (F_X0_rests_36 k25 n) hk25 ih s8 x1 x2 x4 x3 h
        · have h := of cn10 h
          refine r_iconst (v := 1) B dX0_rests_71 (by decide) ?_
          refine r_goto (tgt := 76) B dX0_rests_72 (by decide) ?_
          refine r_pick [0, 1, 2, 4] (L' := [(0, vr (some 0)), (1, vi x1), (2, vi x2), (4, vi x4)]) rfl ?_
          exact w_X0_rests_76 B hS k25 (F_X0_rests_36 k25 n) hk25 ih s8 x1 x2 x4 (1 : Int32) x3 h
set_option maxHeartbeats 4000000 in
noncomputable def F_X0_rests_25 : Nat → St → Int32 → Int32 → Option (Int32 × St)
  | 0 => fun _ _ _ => none
  | n + 1 => fun s x1 x2 => if (50 : Int32) < x2 then (some ((-1 : Int32), s)) else (F_X0_rests_36 (F_X0_rests_25  n) FU s x1 x2 (0 : Int32) (0 : Int32))
set_option maxHeartbeats 4000000 in
theorem w_X0_rests_25 {X : CX} {E : EV} {a0 s' : St} {r : Int32} (B : FX X E cX0_rests 5 (some .int) "RoseThrow" "rests" (sn a0) (ss a0) 247 13770) (hS : ∀ σ, eSk E σ ↔ SkC σ) : ∀ (n : Nat) (s : St) (x1 : Int32) (x2 : Int32), F_X0_rests_25   n s x1 x2 = some (r, s') → J X E (sn a0) (ss a0) 5 (QR X E a0 (some (vi r)) s') s 25 [(0, vr (some 0)), (1, vi x1), (2, vi x2)] [] := by
  intro n
  induction n with
  | zero => intro s x1 x2 h; exact absurd (show (none : Option (Int32 × St)) = _ from h) (by simp)
  | succ n ih =>
    intro s x1 x2 h
    rw [F_X0_rests_25] at h
    refine r_iload_n (j := 2) B dX0_rests_25 rfl rfl ?_
    refine r_bipush (v := 50) B dX0_rests_26 (by decide) ?_
    refine r_ic_gt (tgt := 110) B dX0_rests_28 (by decide) (fun cn1 => ?_) (fun cn1 => ?_)
    · have h := ot cn1 h
      refine r_iconst (v := -1) B dX0_rests_110 (by decide) ?_
      exact r_iret B dX0_rests_111 h
    · have h := of cn1 h
      refine r_iconst (v := 0) B dX0_rests_31 (by decide) ?_
      refine r_istore_n (L' := [(0, vr (some 0)), (1, vi x1), (2, vi x2), (3, vi (0 : Int32))]) B dX0_rests_32 rfl (by decide) rfl rfl rfl ?_
      refine r_iconst (v := 0) B dX0_rests_33 (by decide) ?_
      refine r_istore (L' := [(0, vr (some 0)), (1, vi x1), (2, vi x2), (3, vi (0 : Int32)), (4, vi (0 : Int32))]) B dX0_rests_34 (by decide) rfl rfl rfl ?_
      exact w_X0_rests_36 B hS (F_X0_rests_25  n) ih FU s x1 x2 (0 : Int32) (0 : Int32) h
set_option maxHeartbeats 4000000 in
noncomputable def F_X0_rests_15 (s : St) (x1 : Int32) : Option (Int32 × St) := bnd (F_X0_looks s) fun _ s2 => bnd (F_X0_copies s2) fun _ s5 => F_X0_rests_25 FU s5 x1 (1 : Int32)
set_option maxHeartbeats 4000000 in
theorem w_X0_rests_15 {X : CX} {E : EV} {a0 s' : St} {r : Int32} (B : FX X E cX0_rests 5 (some .int) "RoseThrow" "rests" (sn a0) (ss a0) 247 13770) (hS : ∀ σ, eSk E σ ↔ SkC σ) (s : St) (x1 : Int32) (h : F_X0_rests_15   s x1 = some (r, s')) : J X E (sn a0) (ss a0) 5 (QR X E a0 (some (vi r)) s') s 15 [(0, vr (some 0)), (1, vi x1)] [] := by
  unfold F_X0_rests_15 at h
  refine r_aload_n (j := 0) B dX0_rests_15 rfl rfl ?_
  obtain ⟨r1, s2, hc3, h⟩ := bnd_e h
  refine r_callV0 (As := []) (rest := []) B rfl rfl EX.same (c_X0_looks B.ge hS hc3) (cw_X0_looks rfl rfl) (fun z => RV.of 0 (by rw [((hS _).1 z).1 0 (by decide)]; rfl) rfl rfl qs26) q1253 q1255 rfl dX0_rests_16 ?_
  refine r_aload_n (j := 0) B dX0_rests_19 rfl rfl ?_
  obtain ⟨r4, s5, hc6, h⟩ := bnd_e h
  refine r_callV0 (As := []) (rest := []) B rfl rfl EX.same (c_X0_copies B.ge hS hc6) (cw_X0_copies rfl rfl) (fun z => RV.of 0 (by rw [((hS _).1 z).1 0 (by decide)]; rfl) rfl rfl qs33) q1318 q1320 rfl dX0_rests_20 ?_
  refine r_iconst (v := 1) B dX0_rests_23 (by decide) ?_
  refine r_istore_n (L' := [(0, vr (some 0)), (1, vi x1), (2, vi (1 : Int32))]) B dX0_rests_24 rfl (by decide) rfl rfl rfl ?_
  exact w_X0_rests_25 B hS FU s5 x1 (1 : Int32) h
set_option maxHeartbeats 4000000 in
noncomputable def F_X0_rests (s : St) (p0 : Int32) : Option (Int32 × St) := if p0 = (-1 : Int32) then (F_X0_rests_15 s p0) else (bnd (F_X0_isCatcher s p0) fun r2 s3 => if r2 = 0 then (some ((-1 : Int32), s3)) else (F_X0_rests_15 s3 p0))
set_option maxHeartbeats 4000000 in
theorem c_X0_rests {l : Launch} {E : EV} (hE : GE E) (hS : ∀ σ, eSk E σ ↔ SkC σ) {s s' : St} {r : Int32} {p0 : Int32} (h : F_X0_rests  s p0 = some (r, s')) : CT l E yX0_rests cX0_rests 5 (some .int) 247 13770 [vr (some 0), vi p0] s (some (vi r)) s' := by
  refine CT.start hE (by decide) rfl [(0, vr (some 0)), (1, vi p0)] rfl (fun X hX B => ?_)
  skip
  have B : FX X E cX0_rests 5 (some .int) "RoseThrow" "rests" (sn s) (ss s) 247 13770 := B
  unfold F_X0_rests at h
  refine r_iload_n (j := 1) B dX0_rests_0 rfl rfl ?_
  refine r_iconst (v := -1) B dX0_rests_1 (by decide) ?_
  refine r_ic_eq (tgt := 15) B dX0_rests_2 (by decide) (fun cn1 => ?_) (fun cn1 => ?_)
  · have h := ot cn1 h
    exact w_X0_rests_15 B hS s p0 h
  · have h := of cn1 h
    refine r_aload_n (j := 0) B dX0_rests_5 rfl rfl ?_
    refine r_iload_n (j := 1) B dX0_rests_6 rfl rfl ?_
    obtain ⟨r2, s3, hc4, h⟩ := bnd_e h
    refine r_callVv (As := [vi p0]) (rest := []) B rfl rfl EX.same (c_X0_isCatcher B.ge hS hc4) (cw_X0_isCatcher rfl rfl) (fun z => RV.of 0 (by rw [((hS _).1 z).1 0 (by decide)]; rfl) rfl rfl qs12) q654 q656 rfl dX0_rests_7 ?_
    refine r_if_ne (tgt := 15) B dX0_rests_10 (by decide) (fun cn5 => ?_) (fun cn5 => ?_)
    · have h := of cn5 h
      exact w_X0_rests_15 B hS s3 p0 h
    · have h := ot cn5 h
      refine r_iconst (v := -1) B dX0_rests_13 (by decide) ?_
      exact r_iret B dX0_rests_14 h
set_option maxHeartbeats 4000000 in
theorem cw_X0_rests {X : CX} {fr lo : Nat} (h1 : Nat.ble (247 + 1) fr = true) (h2 : Nat.ble (24 + 13770) lo = true) : CW X fr lo yX0_rests cX0_rests 5 (some .int) 247 13770 1 := ⟨q1329, q126, ⟨by decide +kernel, by decide +kernel, by decide +kernel⟩, Nat.le_of_ble_eq_true h1, Nat.le_of_ble_eq_true h2⟩

set_option maxHeartbeats 4000000 in
noncomputable def F_X0_looksAtAll_35 (k6 : St → Int32 → Option (Unit × St)) (s : St) (x1 : Int32) : Option (Unit × St) := gd (inb x1 25) <| drf (sr s 26 x1.toNatClampNeg) fun a2 => gd (isK s a2 4) <| bnd (F_X4_lays s a2 ((1 : Int32) + (x1 / (5 : Int32))) ((x1 - x1 / (5 : Int32) * (5 : Int32)) - (2 : Int32))) fun _ s6 => k6 s6 (x1 + (1))
set_option maxHeartbeats 4000000 in
theorem w_X0_looksAtAll_35 {X : CX} {E : EV} {a0 s' : St} {r : Unit} (B : FX X E cX0_looksAtAll 2 none "RoseThrow" "looksAtAll" (sn a0) (ss a0) 246 13745) (hS : ∀ σ, eSk E σ ↔ SkC σ) (k6 : St → Int32 → Option (Unit × St)) (hk6 : ∀ (s : St) (x1 : Int32), k6 s x1 = some (r, s') → J X E (sn a0) (ss a0) 2 (QR X E a0 none s') s 6 [(0, vr (some 0)), (1, vi x1)] []) (s : St) (x1 : Int32) (h : F_X0_looksAtAll_35  k6 s x1 = some (r, s')) : J X E (sn a0) (ss a0) 2 (QR X E a0 none s') s 35 [(0, vr (some 0)), (1, vi x1)] [] := by
  unfold F_X0_looksAtAll_35 at h
  refine r_aload_n (j := 0) B dX0_looksAtAll_35 rfl rfl ?_
  refine g0 (k := 18) B (vr (some 26)) rfl (fun z => by rw [((hS _).1 z).1 0 (by decide)]; rfl) rfl q374 rfl (fun z => by rw [((hS _).1 z).2 _ (List.mem_of_getElem? (i := 12) rfl)]; rfl) dX0_looksAtAll_36 ?_
  refine r_iload_n (j := 1) B dX0_looksAtAll_39 rfl rfl ?_
  obtain ⟨hg1, h⟩ := gd_e h
  refine r_aald 6 "RoseThrow$Flight" ⟨by decide, by decide, rfl⟩ B rfl (fun z => ((hS _).1 z).1 26 (by decide)) hg1 dX0_looksAtAll_40 ?_
  refine r_iconst (v := 1) B dX0_looksAtAll_41 (by decide) ?_
  refine r_iload_n (j := 1) B dX0_looksAtAll_42 rfl rfl ?_
  refine r_iconst (v := 5) B dX0_looksAtAll_43 (by decide) ?_
  refine r_idiv B dX0_looksAtAll_44 (by decide) ?_
  refine r_iadd B dX0_looksAtAll_45 ?_
  refine r_iload_n (j := 1) B dX0_looksAtAll_46 rfl rfl ?_
  refine r_iconst (v := 5) B dX0_looksAtAll_47 (by decide) ?_
  refine r_irem B dX0_looksAtAll_48 (by decide) ?_
  refine r_iconst (v := 2) B dX0_looksAtAll_49 (by decide) ?_
  refine r_isub B dX0_looksAtAll_50 ?_
  obtain ⟨a2, ea3, h⟩ := drf_e h
  obtain ⟨hg4, h⟩ := gd_e h
  obtain ⟨r5, s6, hc7, h⟩ := bnd_e h
  refine r_callV0 (As := [vi ((1 : Int32) + (x1 / (5 : Int32))), vi ((x1 - x1 / (5 : Int32) * (5 : Int32)) - (2 : Int32))]) (rest := []) B rfl ea3 EX.same (c_X4_lays B.ge hS hc7) (cw_X4_lays rfl rfl) (fun z => RV.of 4 ((fun _ => isK_e hg4) z) rfl rfl q1259) q1257 q1258 rfl dX0_looksAtAll_51 ?_
  refine r_iinc (j := 1) (v := (x1 + (1))) (L' := [(0, vr (some 0)), (1, vi (x1 + (1)))]) B dX0_looksAtAll_54 rfl rfl (by decide) rfl rfl rfl ?_
  refine r_goto (tgt := 6) B dX0_looksAtAll_57 (by decide) ?_
  exact hk6 s6 (x1 + (1)) h
set_option maxHeartbeats 4000000 in
noncomputable def F_X0_looksAtAll_6 : Nat → St → Int32 → Option (Unit × St)
  | 0 => fun _ _ => none
  | n + 1 => fun s x1 => if (25 : Int32) ≤ x1 then (some ((), s)) else (gd (inb x1 25) <| if (sr s 26 x1.toNatClampNeg) = none then (gd (okN s 5) <| nam (newO s (4, 0) 5) fun s5 => gp (SkC s5) <| bnd (F_X4_init s5 (sn s) (some 0)) fun _ s9 => gp (SkC s9) <| gd (inb x1 25) <| gd (isK s9 (sn s) 4) <| nam (setR s9 26 x1.toNatClampNeg (some (sn s))) fun s13 => gp (SkC s13) <| F_X0_looksAtAll_35 (F_X0_looksAtAll_6  n) s13 x1) else (F_X0_looksAtAll_35 (F_X0_looksAtAll_6  n) s x1))
set_option maxHeartbeats 4000000 in
theorem w_X0_looksAtAll_6 {X : CX} {E : EV} {a0 s' : St} {r : Unit} (B : FX X E cX0_looksAtAll 2 none "RoseThrow" "looksAtAll" (sn a0) (ss a0) 246 13745) (hS : ∀ σ, eSk E σ ↔ SkC σ) : ∀ (n : Nat) (s : St) (x1 : Int32), F_X0_looksAtAll_6   n s x1 = some (r, s') → J X E (sn a0) (ss a0) 2 (QR X E a0 none s') s 6 [(0, vr (some 0)), (1, vi x1)] [] := by
  intro n
  induction n with
  | zero => intro s x1 h; exact absurd (show (none : Option (Unit × St)) = _ from h) (by simp)
  | succ n ih =>
    intro s x1 h
    rw [F_X0_looksAtAll_6] at h
    refine r_iload_n (j := 1) B dX0_looksAtAll_6 rfl rfl ?_
    refine r_bipush (v := 25) B dX0_looksAtAll_7 (by decide) ?_
    refine r_ic_ge (tgt := 60) B dX0_looksAtAll_9 (by decide) (fun cn1 => ?_) (fun cn1 => ?_)
    · have h := ot cn1 h
      exact r_vret B dX0_looksAtAll_60 h
    · have h := of cn1 h
      refine r_aload_n (j := 0) B dX0_looksAtAll_12 rfl rfl ?_
      refine g0 (k := 18) B (vr (some 26)) rfl (fun z => by rw [((hS _).1 z).1 0 (by decide)]; rfl) rfl q374 rfl (fun z => by rw [((hS _).1 z).2 _ (List.mem_of_getElem? (i := 12) rfl)]; rfl) dX0_looksAtAll_13 ?_
      refine r_iload_n (j := 1) B dX0_looksAtAll_16 rfl rfl ?_
      obtain ⟨hg2, h⟩ := gd_e h
      refine r_aald 6 "RoseThrow$Flight" ⟨by decide, by decide, rfl⟩ B rfl (fun z => ((hS _).1 z).1 26 (by decide)) hg2 dX0_looksAtAll_17 ?_
      refine r_ifnonnull (tgt := 35) B dX0_looksAtAll_18 (by decide) (fun cn3 => ?_) (fun cn3 => ?_)
      · have h := of cn3 h
        exact w_X0_looksAtAll_35 B hS (F_X0_looksAtAll_6  n) ih s x1 h
      · have h := ot cn3 h
        refine r_aload_n (j := 0) B dX0_looksAtAll_21 rfl rfl ?_
        refine g0 (k := 18) B (vr (some 26)) rfl (fun z => by rw [((hS _).1 z).1 0 (by decide)]; rfl) rfl q374 rfl (fun z => by rw [((hS _).1 z).2 _ (List.mem_of_getElem? (i := 12) rfl)]; rfl) dX0_looksAtAll_22 ?_
        refine r_iload_n (j := 1) B dX0_looksAtAll_25 rfl rfl ?_
        obtain ⟨hg4, h⟩ := gd_e h
        obtain ⟨s5, e6, h⟩ := nam_e h
        obtain ⟨hg7, h⟩ := gp_e h
        refine r_new B e6 hg4 (c := 4) rfl (by decide) rfl in_X4 tyX4_ok rfl q329 q330 q135 (fun _ => (hS _).2 hg7) dX0_looksAtAll_26 ?_
        refine r_dup B dX0_looksAtAll_29 rfl ?_
        refine r_aload_n (j := 0) B dX0_looksAtAll_30 rfl rfl ?_
        obtain ⟨r8, s9, hc10, h⟩ := bnd_e h
        obtain ⟨hg11, h⟩ := gp_e h
        refine r_callIN (As := [vr (some 0)]) (rest := [vr (some (sn s)), vi x1, vr (some 26)]) B rfl rfl (EX.noSk (fun _ => (hS _).2 hg11)) (c_X4_init B.ge.noSk (fun _ => trivial) hc10) (cw_X4_init rfl rfl) rfl (lw_n q331 rfl) q332 rfl dX0_looksAtAll_31 ?_
        obtain ⟨hg12, h⟩ := gd_e h
        obtain ⟨hg15, h⟩ := gd_e h
        obtain ⟨s13, e14, h⟩ := nam_e h
        obtain ⟨hg16, h⟩ := gp_e h
        refine r_aastQ 6 "RoseThrow$Flight" ⟨by decide, by decide, rfl⟩ B e14 rfl (fun z => ((hS _).1 z).1 26 (by decide)) hg12 rfl (isK_e hg15) (by decide) rfl rfl (fun _ => (hS _).2 hg16) dX0_looksAtAll_34 ?_
        exact w_X0_looksAtAll_35 B hS (F_X0_looksAtAll_6  n) ih s13 x1 h
set_option maxHeartbeats 4000000 in
noncomputable def F_X0_looksAtAll (s : St)  : Option (Unit × St) := bnd (F_X0_looks s) fun _ s2 => F_X0_looksAtAll_6 FU s2 (0 : Int32)
set_option maxHeartbeats 4000000 in
theorem c_X0_looksAtAll {l : Launch} {E : EV} (hE : GE E) (hS : ∀ σ, eSk E σ ↔ SkC σ) {s s' : St} {r : Unit}  (h : F_X0_looksAtAll  s  = some (r, s')) : CT l E yX0_looksAtAll cX0_looksAtAll 2 none 246 13745 [vr (some 0)] s none s' := by
  refine CT.start hE (by decide) rfl [(0, vr (some 0))] rfl (fun X hX B => ?_)
  skip
  have B : FX X E cX0_looksAtAll 2 none "RoseThrow" "looksAtAll" (sn s) (ss s) 246 13745 := B
  unfold F_X0_looksAtAll at h
  refine r_aload_n (j := 0) B dX0_looksAtAll_0 rfl rfl ?_
  obtain ⟨r1, s2, hc3, h⟩ := bnd_e h
  refine r_callV0 (As := []) (rest := []) B rfl rfl EX.same (c_X0_looks B.ge hS hc3) (cw_X0_looks rfl rfl) (fun z => RV.of 0 (by rw [((hS _).1 z).1 0 (by decide)]; rfl) rfl rfl qs26) q1253 q1255 rfl dX0_looksAtAll_1 ?_
  refine r_iconst (v := 0) B dX0_looksAtAll_4 (by decide) ?_
  refine r_istore_n (L' := [(0, vr (some 0)), (1, vi (0 : Int32))]) B dX0_looksAtAll_5 rfl (by decide) rfl rfl rfl ?_
  exact w_X0_looksAtAll_6 B hS FU s2 (0 : Int32) h
set_option maxHeartbeats 4000000 in
theorem cw_X0_looksAtAll {X : CX} {fr lo : Nat} (h1 : Nat.ble (246 + 1) fr = true) (h2 : Nat.ble (21 + 13745) lo = true) : CW X fr lo yX0_looksAtAll cX0_looksAtAll 2 none 246 13745 0 := ⟨q1341, q126, ⟨by decide +kernel, by decide +kernel, by decide +kernel⟩, Nat.le_of_ble_eq_true h1, Nat.le_of_ble_eq_true h2⟩

set_option maxHeartbeats 4000000 in
noncomputable def F_X0_none (s : St)  : Option (Unit × St) := nam (setL s 0 22 (-1 : Int64)) fun s1 => nam (setL s1 0 23 (1 : Int64)) fun s3 => some ((), s3)
set_option maxHeartbeats 4000000 in
theorem c_X0_none {l : Launch} {E : EV} (hE : GE E) (hS : ∀ σ, eSk E σ ↔ SkC σ) {s s' : St} {r : Unit}  (h : F_X0_none  s  = some (r, s')) : CT l E yX0_none cX0_none 1 none 0 0 [vr (some 0)] s none s' := by
  refine CT.start hE (by decide) rfl [(0, vr (some 0))] rfl (fun X hX B => ?_)
  skip
  have B : FX X E cX0_none 1 none "RoseThrow" "none" (sn s) (ss s) 0 0 := B
  unfold F_X0_none at h
  refine r_aload_n (j := 0) B dX0_none_0 rfl rfl ?_
  refine r_ldc2 B dX0_none_1 q575 ?_
  obtain ⟨s1, e2, h⟩ := nam_e h
  refine pL0 (k := 22) B e2 rfl (fun z => by rw [((hS _).1 z).1 0 (by decide)]; rfl) rfl q378 rfl rfl rfl dX0_none_4 ?_
  refine r_aload_n (j := 0) B dX0_none_7 rfl rfl ?_
  refine r_lconst (v := 1) B dX0_none_8 (by decide) ?_
  obtain ⟨s3, e4, h⟩ := nam_e h
  refine pL0 (k := 23) B e4 rfl (fun z => by rw [((hS _).1 z).1 0 (by decide)]; rfl) rfl q379 rfl rfl rfl dX0_none_9 ?_
  exact r_vret B dX0_none_12 h
set_option maxHeartbeats 4000000 in
theorem cw_X0_none {X : CX} {fr lo : Nat} (h1 : Nat.ble (0 + 1) fr = true) (h2 : Nat.ble (20 + 0) lo = true) : CW X fr lo yX0_none cX0_none 1 none 0 0 0 := ⟨q1345, q126, ⟨by decide +kernel, by decide +kernel, by decide +kernel⟩, Nat.le_of_ble_eq_true h1, Nat.le_of_ble_eq_true h2⟩

set_option maxHeartbeats 4000000 in
noncomputable def F_X0_isMore (s : St) (p0 : Int64) (p1 : Int64) : Option (Int32 × St) := if ((sl s 0 22) * p1) < (p0 * (sl s 0 23)) then (nam (setL s 0 22 p0) fun s2 => nam (setL s2 0 23 p1) fun s4 => some ((1 : Int32), s4)) else (some ((0 : Int32), s))
set_option maxHeartbeats 4000000 in
theorem c_X0_isMore {l : Launch} {E : EV} (hE : GE E) (hS : ∀ σ, eSk E σ ↔ SkC σ) {s s' : St} {r : Int32} {p0 : Int64} {p1 : Int64} (h : F_X0_isMore  s p0 p1 = some (r, s')) : CT l E yX0_isMore cX0_isMore 5 (some .boolean) 0 0 [vr (some 0), vl p0, vl p1] s (some (vi r)) s' := by
  refine CT.start hE (by decide) rfl [(0, vr (some 0)), (1, vl p0), (3, vl p1)] rfl (fun X hX B => ?_)
  skip
  have B : FX X E cX0_isMore 5 (some .boolean) "RoseThrow" "isMore" (sn s) (ss s) 0 0 := B
  unfold F_X0_isMore at h
  refine r_lload_n (j := 1) B dX0_isMore_0 rfl rfl ?_
  refine r_aload_n (j := 0) B dX0_isMore_1 rfl rfl ?_
  refine g0 (k := 23) B (vl (sl s 0 23)) rfl (fun z => by rw [((hS _).1 z).1 0 (by decide)]; rfl) rfl q379 rfl (fun _ => rfl) dX0_isMore_2 ?_
  refine r_lmul B dX0_isMore_5 ?_
  refine r_aload_n (j := 0) B dX0_isMore_6 rfl rfl ?_
  refine g0 (k := 22) B (vl (sl s 0 22)) rfl (fun z => by rw [((hS _).1 z).1 0 (by decide)]; rfl) rfl q378 rfl (fun _ => rfl) dX0_isMore_7 ?_
  refine r_lload_n (j := 2) B dX0_isMore_10 rfl rfl ?_
  refine r_lmul B dX0_isMore_11 ?_
  refine r_lcmp B dX0_isMore_12 ?_
  refine r_if_gt (tgt := 18) B dX0_isMore_13 (by decide) (fun cn1 => ?_) (fun cn1 => ?_)
  · have h := ot (lc_gt.mp cn1) h
    refine r_aload_n (j := 0) B dX0_isMore_18 rfl rfl ?_
    refine r_lload_n (j := 1) B dX0_isMore_19 rfl rfl ?_
    obtain ⟨s2, e3, h⟩ := nam_e h
    refine pL0 (k := 22) B e3 rfl (fun z => by rw [((hS _).1 z).1 0 (by decide)]; rfl) rfl q378 rfl rfl rfl dX0_isMore_20 ?_
    refine r_aload_n (j := 0) B dX0_isMore_23 rfl rfl ?_
    refine r_lload_n (j := 2) B dX0_isMore_24 rfl rfl ?_
    obtain ⟨s4, e5, h⟩ := nam_e h
    refine pL0 (k := 23) B e5 rfl (fun z => by rw [((hS _).1 z).1 0 (by decide)]; rfl) rfl q379 rfl rfl rfl dX0_isMore_25 ?_
    refine r_iconst (v := 1) B dX0_isMore_28 (by decide) ?_
    exact r_zret B dX0_isMore_29 (by decide) h
  · have h := of (fun z => cn1 (lc_gt.mpr z)) h
    refine r_iconst (v := 0) B dX0_isMore_16 (by decide) ?_
    exact r_zret B dX0_isMore_17 (by decide) h
set_option maxHeartbeats 4000000 in
theorem cw_X0_isMore {X : CX} {fr lo : Nat} (h1 : Nat.ble (0 + 1) fr = true) (h2 : Nat.ble (24 + 0) lo = true) : CW X fr lo yX0_isMore cX0_isMore 5 (some .boolean) 0 0 2 := ⟨q1349, q126, ⟨by decide +kernel, by decide +kernel, by decide +kernel⟩, Nat.le_of_ble_eq_true h1, Nat.le_of_ble_eq_true h2⟩

set_option maxHeartbeats 4000000 in
noncomputable def F_X0_forceOf (s : St) (p0 : Int32) : Option (Int32 × St) := some (((1 : Int32) + (p0 / (5 : Int32))), s)
set_option maxHeartbeats 4000000 in
theorem c_X0_forceOf {l : Launch} {E : EV} (hE : GE E) (hS : ∀ σ, eSk E σ ↔ SkC σ) {s s' : St} {r : Int32} {p0 : Int32} (h : F_X0_forceOf  s p0 = some (r, s')) : CT l E yX0_forceOf cX0_forceOf 1 (some .int) 0 0 [vi p0] s (some (vi r)) s' := by
  refine CT.start hE (by decide) rfl [(0, vi p0)] rfl (fun X hX B => ?_)
  skip
  have B : FX X E cX0_forceOf 1 (some .int) "RoseThrow" "forceOf" (sn s) (ss s) 0 0 := B
  unfold F_X0_forceOf at h
  refine r_iconst (v := 1) B dX0_forceOf_0 (by decide) ?_
  refine r_iload_n (j := 0) B dX0_forceOf_1 rfl rfl ?_
  refine r_iconst (v := 5) B dX0_forceOf_2 (by decide) ?_
  refine r_idiv B dX0_forceOf_3 (by decide) ?_
  refine r_iadd B dX0_forceOf_4 ?_
  exact r_iret B dX0_forceOf_5 h
set_option maxHeartbeats 4000000 in
theorem cw_X0_forceOf {X : CX} {fr lo : Nat} (h1 : Nat.ble (0 + 1) fr = true) (h2 : Nat.ble (20 + 0) lo = true) : CW X fr lo yX0_forceOf cX0_forceOf 1 (some .int) 0 0 1 := ⟨q1356, q126, ⟨by decide +kernel, by decide +kernel, by decide +kernel⟩, Nat.le_of_ble_eq_true h1, Nat.le_of_ble_eq_true h2⟩

set_option maxHeartbeats 4000000 in
noncomputable def F_X0_friendOf_42 (s : St) (z0 : Int32) (z1 : Int64) (z2 : Int64) : Option (Int64 × St) := bnd (F_X0_tells s z2 z1 z0) fun r1 s2 => some (r1, s2)
set_option maxHeartbeats 4000000 in
theorem w_X0_friendOf_42 {X : CX} {E : EV} {a0 s' : St} {r : Int64} (B : FX X E cX0_friendOf 3 (some .long) "RoseThrow" "friendOf" (sn a0) (ss a0) 2 53) (hS : ∀ σ, eSk E σ ↔ SkC σ) (s : St) (z0 : Int32) (z1 : Int64) (z2 : Int64) (h : F_X0_friendOf_42   s z0 z1 z2 = some (r, s')) : J X E (sn a0) (ss a0) 3 (QR X E a0 (some (vl r)) s') s 42 [] [vi z0, vl z1, vl z2] := by
  unfold F_X0_friendOf_42 at h
  obtain ⟨r1, s2, hc3, h⟩ := bnd_e h
  refine r_callSv (As := [vl z2, vl z1, vi z0]) (rest := []) B rfl EX.same (c_X0_tells B.ge hS hc3) (cw_X0_tells rfl rfl) q1281 q1282 rfl dX0_friendOf_42 ?_
  exact r_lret B dX0_friendOf_45 h
set_option maxHeartbeats 4000000 in
noncomputable def F_X0_friendOf (s : St) (p0 : Int32) (p1 : Int32) : Option (Int64 × St) := if p1 = 0 then (bnd (F_X0_forceOf s p0) fun r4 s5 => some (((r4).toInt64), s5)) else (if p1 = (1 : Int32) then (some ((((p0 - p0 / (5 : Int32) * (5 : Int32))).toInt64), s)) else (if p1 = (2 : Int32) then (F_X0_friendOf_42 s (1 : Int32) (sl s 0 23) (sl s 0 22)) else (F_X0_friendOf_42 s (0 : Int32) (sl s 0 23) (sl s 0 22))))
set_option maxHeartbeats 4000000 in
theorem c_X0_friendOf {l : Launch} {E : EV} (hE : GE E) (hS : ∀ σ, eSk E σ ↔ SkC σ) {s s' : St} {r : Int64} {p0 : Int32} {p1 : Int32} (h : F_X0_friendOf  s p0 p1 = some (r, s')) : CT l E yX0_friendOf cX0_friendOf 3 (some .long) 2 53 [vr (some 0), vi p0, vi p1] s (some (vl r)) s' := by
  refine CT.start hE (by decide) rfl [(0, vr (some 0)), (1, vi p0), (2, vi p1)] rfl (fun X hX B => ?_)
  skip
  have B : FX X E cX0_friendOf 3 (some .long) "RoseThrow" "friendOf" (sn s) (ss s) 2 53 := B
  unfold F_X0_friendOf at h
  refine r_iload_n (j := 2) B dX0_friendOf_0 rfl rfl ?_
  refine r_if_ne (tgt := 12) B dX0_friendOf_1 (by decide) (fun cn1 => ?_) (fun cn1 => ?_)
  · have h := of cn1 h
    refine r_iload_n (j := 2) B dX0_friendOf_12 rfl rfl ?_
    refine r_iconst (v := 1) B dX0_friendOf_13 (by decide) ?_
    refine r_ic_ne (tgt := 24) B dX0_friendOf_14 (by decide) (fun cn2 => ?_) (fun cn2 => ?_)
    · have h := of cn2 h
      refine r_aload_n (j := 0) B dX0_friendOf_24 rfl rfl ?_
      refine g0 (k := 22) B (vl (sl s 0 22)) rfl (fun z => by rw [((hS _).1 z).1 0 (by decide)]; rfl) rfl q378 rfl (fun _ => rfl) dX0_friendOf_25 ?_
      refine r_aload_n (j := 0) B dX0_friendOf_28 rfl rfl ?_
      refine g0 (k := 23) B (vl (sl s 0 23)) rfl (fun z => by rw [((hS _).1 z).1 0 (by decide)]; rfl) rfl q379 rfl (fun _ => rfl) dX0_friendOf_29 ?_
      refine r_iload_n (j := 2) B dX0_friendOf_32 rfl rfl ?_
      refine r_iconst (v := 2) B dX0_friendOf_33 (by decide) ?_
      refine r_ic_ne (tgt := 41) B dX0_friendOf_34 (by decide) (fun cn3 => ?_) (fun cn3 => ?_)
      · have h := of cn3 h
        refine r_iconst (v := 0) B dX0_friendOf_41 (by decide) ?_
        refine r_pick [] (L' := []) rfl ?_
        exact w_X0_friendOf_42 B hS s (0 : Int32) (sl s 0 23) (sl s 0 22) h
      · have h := ot cn3 h
        refine r_iconst (v := 1) B dX0_friendOf_37 (by decide) ?_
        refine r_goto (tgt := 42) B dX0_friendOf_38 (by decide) ?_
        refine r_pick [] (L' := []) rfl ?_
        exact w_X0_friendOf_42 B hS s (1 : Int32) (sl s 0 23) (sl s 0 22) h
    · have h := ot cn2 h
      refine r_iload_n (j := 1) B dX0_friendOf_17 rfl rfl ?_
      refine r_iconst (v := 5) B dX0_friendOf_18 (by decide) ?_
      refine r_irem B dX0_friendOf_19 (by decide) ?_
      refine r_i2l B dX0_friendOf_20 ?_
      refine r_goto (tgt := 45) B dX0_friendOf_21 (by decide) ?_
      exact r_lret B dX0_friendOf_45 h
  · have h := ot cn1 h
    refine r_iload_n (j := 1) B dX0_friendOf_4 rfl rfl ?_
    obtain ⟨r4, s5, hc6, h⟩ := bnd_e h
    refine r_callSv (As := [vi p0]) (rest := []) B rfl EX.same (c_X0_forceOf B.ge hS hc6) (cw_X0_forceOf rfl rfl) q1354 q1355 rfl dX0_friendOf_5 ?_
    refine r_i2l B dX0_friendOf_8 ?_
    refine r_goto (tgt := 45) B dX0_friendOf_9 (by decide) ?_
    exact r_lret B dX0_friendOf_45 h
set_option maxHeartbeats 4000000 in
theorem cw_X0_friendOf {X : CX} {fr lo : Nat} (h1 : Nat.ble (2 + 1) fr = true) (h2 : Nat.ble (22 + 53) lo = true) : CW X fr lo yX0_friendOf cX0_friendOf 3 (some .long) 2 53 2 := ⟨q1353, q126, ⟨by decide +kernel, by decide +kernel, by decide +kernel⟩, Nat.le_of_ble_eq_true h1, Nat.le_of_ble_eq_true h2⟩

set_option maxHeartbeats 4000000 in
noncomputable def F_X0_friend_34 : Nat → St → Int32 → Int32 → Int32 → Int32 → Option (Int64 × St)
  | 0 => fun _ _ _ _ _ => none
  | n + 1 => fun s x1 x2 x3 x4 => if (25 : Int32) ≤ x4 then (bnd (F_X0_friendOf s x3 x2) fun r2 s3 => some (r2, s3)) else (gd (inb x4 25) <| bnd (F_X0_chance s x1 (sr s 26 x4.toNatClampNeg) (some 3)) fun r6 s7 => gd (inb x4 25) <| drf (sr s7 26 x4.toNatClampNeg) fun a10 => gd (isK s7 a10 4) <| bnd (F_X4_lower s7 a10) fun r13 s14 => bnd (F_X0_isMore s14 r6 r13) fun r16 s17 => if r16 = 0 then (F_X0_friend_34  n s17 x1 x2 x3 (x4 + (1))) else (F_X0_friend_34  n s17 x1 x2 x4 (x4 + (1))))
set_option maxHeartbeats 4000000 in
theorem w_X0_friend_34 {X : CX} {E : EV} {a0 s' : St} {r : Int64} (B : FX X E cX0_friend 5 (some .long) "RoseThrow" "friend" (sn a0) (ss a0) 247 13766) (hS : ∀ σ, eSk E σ ↔ SkC σ) : ∀ (n : Nat) (s : St) (x1 : Int32) (x2 : Int32) (x3 : Int32) (x4 : Int32), F_X0_friend_34   n s x1 x2 x3 x4 = some (r, s') → J X E (sn a0) (ss a0) 5 (QR X E a0 (some (vl r)) s') s 34 [(0, vr (some 0)), (1, vi x1), (2, vi x2), (3, vi x3), (4, vi x4)] [] := by
  intro n
  induction n with
  | zero => intro s x1 x2 x3 x4 h; exact absurd (show (none : Option (Int64 × St)) = _ from h) (by simp)
  | succ n ih =>
    intro s x1 x2 x3 x4 h
    rw [F_X0_friend_34] at h
    refine r_iload (j := 4) B dX0_friend_34 rfl ?_
    refine r_bipush (v := 25) B dX0_friend_36 (by decide) ?_
    refine r_ic_ge (tgt := 86) B dX0_friend_38 (by decide) (fun cn1 => ?_) (fun cn1 => ?_)
    · have h := ot cn1 h
      refine r_aload_n (j := 0) B dX0_friend_86 rfl rfl ?_
      refine r_iload_n (j := 3) B dX0_friend_87 rfl rfl ?_
      refine r_iload_n (j := 2) B dX0_friend_88 rfl rfl ?_
      obtain ⟨r2, s3, hc4, h⟩ := bnd_e h
      refine r_callVv (As := [vi x3, vi x2]) (rest := []) B rfl rfl EX.same (c_X0_friendOf B.ge hS hc4) (cw_X0_friendOf rfl rfl) (fun z => RV.of 0 (by rw [((hS _).1 z).1 0 (by decide)]; rfl) rfl rfl qs39) q1350 q1352 rfl dX0_friend_89 ?_
      exact r_lret B dX0_friend_92 h
    · have h := of cn1 h
      refine r_aload_n (j := 0) B dX0_friend_41 rfl rfl ?_
      refine r_aload_n (j := 0) B dX0_friend_42 rfl rfl ?_
      refine r_iload_n (j := 1) B dX0_friend_43 rfl rfl ?_
      refine r_aload_n (j := 0) B dX0_friend_44 rfl rfl ?_
      refine g0 (k := 18) B (vr (some 26)) rfl (fun z => by rw [((hS _).1 z).1 0 (by decide)]; rfl) rfl q374 rfl (fun z => by rw [((hS _).1 z).2 _ (List.mem_of_getElem? (i := 12) rfl)]; rfl) dX0_friend_45 ?_
      refine r_iload (j := 4) B dX0_friend_48 rfl ?_
      obtain ⟨hg5, h⟩ := gd_e h
      refine r_aald 6 "RoseThrow$Flight" ⟨by decide, by decide, rfl⟩ B rfl (fun z => ((hS _).1 z).1 26 (by decide)) hg5 dX0_friend_50 ?_
      refine r_aload_n (j := 0) B dX0_friend_51 rfl rfl ?_
      refine g0 (k := 2) B (vr (some 2)) rfl (fun z => by rw [((hS _).1 z).1 0 (by decide)]; rfl) rfl q358 rfl (fun z => by rw [((hS _).1 z).2 _ (List.mem_of_getElem? (i := 1) rfl)]; rfl) dX0_friend_52 ?_
      refine g1N (k := 0) B (vr (some 3)) rfl (fun z => by rw [((hS _).1 z).1 2 (by decide)]; rfl) rfl (lw_n q206 rfl) rfl (fun z => by rw [((hS _).1 z).2 _ (List.mem_of_getElem? (i := 17) rfl)]; rfl) dX0_friend_55 ?_
      obtain ⟨r6, s7, hc8, h⟩ := bnd_e h
      refine r_callVv (As := [vi x1, vr (sr s 26 x4.toNatClampNeg), vr (some 3)]) (rest := [vr (some 0)]) B rfl rfl EX.same (c_X0_chance B.ge hS hc8) (cw_X0_chance rfl rfl) (fun z => RV.of 0 (by rw [((hS _).1 z).1 0 (by decide)]; rfl) rfl rfl qs30) q1291 q1293 rfl dX0_friend_58 ?_
      refine r_aload_n (j := 0) B dX0_friend_61 rfl rfl ?_
      refine g0 (k := 18) B (vr (some 26)) rfl (fun z => by rw [((hS _).1 z).1 0 (by decide)]; rfl) rfl q374 rfl (fun z => by rw [((hS _).1 z).2 _ (List.mem_of_getElem? (i := 12) rfl)]; rfl) dX0_friend_62 ?_
      refine r_iload (j := 4) B dX0_friend_65 rfl ?_
      obtain ⟨hg9, h⟩ := gd_e h
      refine r_aald 6 "RoseThrow$Flight" ⟨by decide, by decide, rfl⟩ B rfl (fun z => ((hS _).1 z).1 26 (by decide)) hg9 dX0_friend_67 ?_
      obtain ⟨a10, ea11, h⟩ := drf_e h
      obtain ⟨hg12, h⟩ := gd_e h
      obtain ⟨r13, s14, hc15, h⟩ := bnd_e h
      refine r_callVv (As := []) (rest := [vl r6, vr (some 0)]) B rfl ea11 EX.same (c_X4_lower B.ge hS hc15) (cw_X4_lower rfl rfl) (fun z => RV.of 4 ((fun _ => isK_e hg12) z) rfl rfl q1311) q1309 q1310 rfl dX0_friend_68 ?_
      obtain ⟨r16, s17, hc18, h⟩ := bnd_e h
      refine r_callVv (As := [vl r6, vl r13]) (rest := []) B rfl rfl EX.same (c_X0_isMore B.ge hS hc18) (cw_X0_isMore rfl rfl) (fun z => RV.of 0 (by rw [((hS _).1 z).1 0 (by decide)]; rfl) rfl rfl qs38) q1346 q1348 rfl dX0_friend_71 ?_
      refine r_if_eq (tgt := 80) B dX0_friend_74 (by decide) (fun cn19 => ?_) (fun cn19 => ?_)
      · have h := ot cn19 h
        refine r_iinc (j := 4) (v := (x4 + (1))) (L' := [(0, vr (some 0)), (1, vi x1), (2, vi x2), (3, vi x3), (4, vi (x4 + (1)))]) B dX0_friend_80 rfl rfl (by decide) rfl rfl rfl ?_
        refine r_goto (tgt := 34) B dX0_friend_83 (by decide) ?_
        exact ih s17 x1 x2 x3 (x4 + (1)) h
      · have h := of cn19 h
        refine r_iload (j := 4) B dX0_friend_77 rfl ?_
        refine r_istore_n (L' := [(0, vr (some 0)), (1, vi x1), (2, vi x2), (3, vi x4), (4, vi x4)]) B dX0_friend_79 rfl (by decide) rfl rfl rfl ?_
        refine r_iinc (j := 4) (v := (x4 + (1))) (L' := [(0, vr (some 0)), (1, vi x1), (2, vi x2), (3, vi x4), (4, vi (x4 + (1)))]) B dX0_friend_80 rfl rfl (by decide) rfl rfl rfl ?_
        refine r_goto (tgt := 34) B dX0_friend_83 (by decide) ?_
        exact ih s17 x1 x2 x4 (x4 + (1)) h
set_option maxHeartbeats 4000000 in
noncomputable def F_X0_friend (s : St) (p0 : Int32) (p1 : Int32) : Option (Int64 × St) := bnd (F_X0_isCatcher s p0) fun r1 s2 => if r1 = 0 then (some ((-1 : Int64), s2)) else (bnd (F_X0_in s2 p1 (0 : Int32) (3 : Int32)) fun r5 s6 => if r5 = 0 then (some ((-1 : Int64), s6)) else (bnd (F_X0_looksAtAll s6) fun _ s10 => bnd (F_X0_none s10) fun _ s13 => F_X0_friend_34 FU s13 p0 p1 (0 : Int32) (0 : Int32)))
set_option maxHeartbeats 4000000 in
theorem c_X0_friend {l : Launch} {E : EV} (hE : GE E) (hS : ∀ σ, eSk E σ ↔ SkC σ) {s s' : St} {r : Int64} {p0 : Int32} {p1 : Int32} (h : F_X0_friend  s p0 p1 = some (r, s')) : CT l E yX0_friend cX0_friend 5 (some .long) 247 13766 [vr (some 0), vi p0, vi p1] s (some (vl r)) s' := by
  refine CT.start hE (by decide) rfl [(0, vr (some 0)), (1, vi p0), (2, vi p1)] rfl (fun X hX B => ?_)
  skip
  have B : FX X E cX0_friend 5 (some .long) "RoseThrow" "friend" (sn s) (ss s) 247 13766 := B
  unfold F_X0_friend at h
  refine r_aload_n (j := 0) B dX0_friend_0 rfl rfl ?_
  refine r_iload_n (j := 1) B dX0_friend_1 rfl rfl ?_
  obtain ⟨r1, s2, hc3, h⟩ := bnd_e h
  refine r_callVv (As := [vi p0]) (rest := []) B rfl rfl EX.same (c_X0_isCatcher B.ge hS hc3) (cw_X0_isCatcher rfl rfl) (fun z => RV.of 0 (by rw [((hS _).1 z).1 0 (by decide)]; rfl) rfl rfl qs12) q654 q656 rfl dX0_friend_2 ?_
  refine r_if_eq (tgt := 17) B dX0_friend_5 (by decide) (fun cn4 => ?_) (fun cn4 => ?_)
  · have h := ot cn4 h
    refine r_ldc2 B dX0_friend_17 q575 ?_
    exact r_lret B dX0_friend_20 h
  · have h := of cn4 h
    refine r_iload_n (j := 2) B dX0_friend_8 rfl rfl ?_
    refine r_iconst (v := 0) B dX0_friend_9 (by decide) ?_
    refine r_iconst (v := 3) B dX0_friend_10 (by decide) ?_
    obtain ⟨r5, s6, hc7, h⟩ := bnd_e h
    refine r_callSv (As := [vi p1, vi (0 : Int32), vi (3 : Int32)]) (rest := []) B rfl EX.same (c_X0_in B.ge hS hc7) (cw_X0_in rfl rfl) q445 q446 rfl dX0_friend_11 ?_
    refine r_if_ne (tgt := 21) B dX0_friend_14 (by decide) (fun cn8 => ?_) (fun cn8 => ?_)
    · have h := of cn8 h
      refine r_aload_n (j := 0) B dX0_friend_21 rfl rfl ?_
      obtain ⟨r9, s10, hc11, h⟩ := bnd_e h
      refine r_callV0 (As := []) (rest := []) B rfl rfl EX.same (c_X0_looksAtAll B.ge hS hc11) (cw_X0_looksAtAll rfl rfl) (fun z => RV.of 0 (by rw [((hS _).1 z).1 0 (by decide)]; rfl) rfl rfl qs36) q1338 q1340 rfl dX0_friend_22 ?_
      refine r_aload_n (j := 0) B dX0_friend_25 rfl rfl ?_
      obtain ⟨r12, s13, hc14, h⟩ := bnd_e h
      refine r_callV0 (As := []) (rest := []) B rfl rfl EX.same (c_X0_none B.ge hS hc14) (cw_X0_none rfl rfl) (fun z => RV.of 0 (by rw [((hS _).1 z).1 0 (by decide)]; rfl) rfl rfl qs37) q1342 q1344 rfl dX0_friend_26 ?_
      refine r_iconst (v := 0) B dX0_friend_29 (by decide) ?_
      refine r_istore_n (L' := [(0, vr (some 0)), (1, vi p0), (2, vi p1), (3, vi (0 : Int32))]) B dX0_friend_30 rfl (by decide) rfl rfl rfl ?_
      refine r_iconst (v := 0) B dX0_friend_31 (by decide) ?_
      refine r_istore (L' := [(0, vr (some 0)), (1, vi p0), (2, vi p1), (3, vi (0 : Int32)), (4, vi (0 : Int32))]) B dX0_friend_32 (by decide) rfl rfl rfl ?_
      exact w_X0_friend_34 B hS FU s13 p0 p1 (0 : Int32) (0 : Int32) h
    · have h := ot cn8 h
      refine r_ldc2 B dX0_friend_17 q575 ?_
      exact r_lret B dX0_friend_20 h
set_option maxHeartbeats 4000000 in
theorem cw_X0_friend {X : CX} {fr lo : Nat} (h1 : Nat.ble (247 + 1) fr = true) (h2 : Nat.ble (24 + 13766) lo = true) : CW X fr lo yX0_friend cX0_friend 5 (some .long) 247 13766 2 := ⟨q1337, q126, ⟨by decide +kernel, by decide +kernel, by decide +kernel⟩, Nat.le_of_ble_eq_true h1, Nat.le_of_ble_eq_true h2⟩

set_option maxHeartbeats 4000000 in
noncomputable def F_X0_beside_46 (s : St) (z0 : Int32) (z1 : Int32) (z2 : Int32) : Option (Int32 × St) := bnd (F_X0_cellAt s z2 (z1 + z0)) fun r1 s2 => some (r1, s2)
set_option maxHeartbeats 4000000 in
theorem w_X0_beside_46 {X : CX} {E : EV} {a0 s' : St} {r : Int32} (B : FX X E cX0_beside 2 (some .int) "RoseThrow" "beside" (sn a0) (ss a0) 2 43) (hS : ∀ σ, eSk E σ ↔ SkC σ) (s : St) (z0 : Int32) (z1 : Int32) (z2 : Int32) (h : F_X0_beside_46   s z0 z1 z2 = some (r, s')) : J X E (sn a0) (ss a0) 2 (QR X E a0 (some (vi r)) s') s 46 [] [vi z0, vi z1, vi z2] := by
  unfold F_X0_beside_46 at h
  refine r_iadd B dX0_beside_46 ?_
  obtain ⟨r1, s2, hc3, h⟩ := bnd_e h
  refine r_callSv (As := [vi z2, vi (z1 + z0)]) (rest := []) B rfl EX.same (c_X0_cellAt B.ge hS hc3) (cw_X0_cellAt rfl rfl) q1368 q1267 rfl dX0_beside_47 ?_
  exact r_iret B dX0_beside_50 h
set_option maxHeartbeats 4000000 in
noncomputable def F_X0_beside_23 (s : St) (x0 : Int32) (x1 : Int32) (z0 : Int32) (z1 : Int32) : Option (Int32 × St) := if x1 = 0 then (F_X0_beside_46 s (-1 : Int32) (x0 / (6 : Int32)) (z1 + z0)) else (if x1 = (2 : Int32) then (F_X0_beside_46 s (1 : Int32) (x0 / (6 : Int32)) (z1 + z0)) else (F_X0_beside_46 s (0 : Int32) (x0 / (6 : Int32)) (z1 + z0)))
set_option maxHeartbeats 4000000 in
theorem w_X0_beside_23 {X : CX} {E : EV} {a0 s' : St} {r : Int32} (B : FX X E cX0_beside 2 (some .int) "RoseThrow" "beside" (sn a0) (ss a0) 2 43) (hS : ∀ σ, eSk E σ ↔ SkC σ) (s : St) (x0 : Int32) (x1 : Int32) (z0 : Int32) (z1 : Int32) (h : F_X0_beside_23   s x0 x1 z0 z1 = some (r, s')) : J X E (sn a0) (ss a0) 2 (QR X E a0 (some (vi r)) s') s 23 [(0, vi x0), (1, vi x1)] [vi z0, vi z1] := by
  unfold F_X0_beside_23 at h
  refine r_iadd B dX0_beside_23 ?_
  refine r_iload_n (j := 0) B dX0_beside_24 rfl rfl ?_
  refine r_bipush (v := 6) B dX0_beside_25 (by decide) ?_
  refine r_idiv B dX0_beside_27 (by decide) ?_
  refine r_iload_n (j := 1) B dX0_beside_28 rfl rfl ?_
  refine r_if_ne (tgt := 36) B dX0_beside_29 (by decide) (fun cn1 => ?_) (fun cn1 => ?_)
  · have h := of cn1 h
    refine r_iload_n (j := 1) B dX0_beside_36 rfl rfl ?_
    refine r_iconst (v := 2) B dX0_beside_37 (by decide) ?_
    refine r_ic_ne (tgt := 45) B dX0_beside_38 (by decide) (fun cn2 => ?_) (fun cn2 => ?_)
    · have h := of cn2 h
      refine r_iconst (v := 0) B dX0_beside_45 (by decide) ?_
      refine r_pick [] (L' := []) rfl ?_
      exact w_X0_beside_46 B hS s (0 : Int32) (x0 / (6 : Int32)) (z1 + z0) h
    · have h := ot cn2 h
      refine r_iconst (v := 1) B dX0_beside_41 (by decide) ?_
      refine r_goto (tgt := 46) B dX0_beside_42 (by decide) ?_
      refine r_pick [] (L' := []) rfl ?_
      exact w_X0_beside_46 B hS s (1 : Int32) (x0 / (6 : Int32)) (z1 + z0) h
  · have h := ot cn1 h
    refine r_iconst (v := -1) B dX0_beside_32 (by decide) ?_
    refine r_goto (tgt := 46) B dX0_beside_33 (by decide) ?_
    refine r_pick [] (L' := []) rfl ?_
    exact w_X0_beside_46 B hS s (-1 : Int32) (x0 / (6 : Int32)) (z1 + z0) h
set_option maxHeartbeats 4000000 in
noncomputable def F_X0_beside (s : St) (p0 : Int32) (p1 : Int32) : Option (Int32 × St) := if p1 = (1 : Int32) then (F_X0_beside_23 s p0 p1 (1 : Int32) (p0 - p0 / (6 : Int32) * (6 : Int32))) else (if p1 = (3 : Int32) then (F_X0_beside_23 s p0 p1 (-1 : Int32) (p0 - p0 / (6 : Int32) * (6 : Int32))) else (F_X0_beside_23 s p0 p1 (0 : Int32) (p0 - p0 / (6 : Int32) * (6 : Int32))))
set_option maxHeartbeats 4000000 in
theorem c_X0_beside {l : Launch} {E : EV} (hE : GE E) (hS : ∀ σ, eSk E σ ↔ SkC σ) {s s' : St} {r : Int32} {p0 : Int32} {p1 : Int32} (h : F_X0_beside  s p0 p1 = some (r, s')) : CT l E yX0_beside cX0_beside 2 (some .int) 2 43 [vi p0, vi p1] s (some (vi r)) s' := by
  refine CT.start hE (by decide) rfl [(0, vi p0), (1, vi p1)] rfl (fun X hX B => ?_)
  skip
  have B : FX X E cX0_beside 2 (some .int) "RoseThrow" "beside" (sn s) (ss s) 2 43 := B
  unfold F_X0_beside at h
  refine r_iload_n (j := 0) B dX0_beside_0 rfl rfl ?_
  refine r_bipush (v := 6) B dX0_beside_1 (by decide) ?_
  refine r_irem B dX0_beside_3 (by decide) ?_
  refine r_iload_n (j := 1) B dX0_beside_4 rfl rfl ?_
  refine r_iconst (v := 1) B dX0_beside_5 (by decide) ?_
  refine r_ic_ne (tgt := 13) B dX0_beside_6 (by decide) (fun cn1 => ?_) (fun cn1 => ?_)
  · have h := of cn1 h
    refine r_iload_n (j := 1) B dX0_beside_13 rfl rfl ?_
    refine r_iconst (v := 3) B dX0_beside_14 (by decide) ?_
    refine r_ic_ne (tgt := 22) B dX0_beside_15 (by decide) (fun cn2 => ?_) (fun cn2 => ?_)
    · have h := of cn2 h
      refine r_iconst (v := 0) B dX0_beside_22 (by decide) ?_
      exact w_X0_beside_23 B hS s p0 p1 (0 : Int32) (p0 - p0 / (6 : Int32) * (6 : Int32)) h
    · have h := ot cn2 h
      refine r_iconst (v := -1) B dX0_beside_18 (by decide) ?_
      refine r_goto (tgt := 23) B dX0_beside_19 (by decide) ?_
      exact w_X0_beside_23 B hS s p0 p1 (-1 : Int32) (p0 - p0 / (6 : Int32) * (6 : Int32)) h
  · have h := ot cn1 h
    refine r_iconst (v := 1) B dX0_beside_9 (by decide) ?_
    refine r_goto (tgt := 23) B dX0_beside_10 (by decide) ?_
    exact w_X0_beside_23 B hS s p0 p1 (1 : Int32) (p0 - p0 / (6 : Int32) * (6 : Int32)) h
set_option maxHeartbeats 4000000 in
theorem cw_X0_beside {X : CX} {fr lo : Nat} (h1 : Nat.ble (2 + 1) fr = true) (h2 : Nat.ble (21 + 43) lo = true) : CW X fr lo yX0_beside cX0_beside 2 (some .int) 2 43 2 := ⟨q1367, q126, ⟨by decide +kernel, by decide +kernel, by decide +kernel⟩, Nat.le_of_ble_eq_true h1, Nat.le_of_ble_eq_true h2⟩

set_option maxHeartbeats 4000000 in
noncomputable def F_X0_hears_64 (k6 : St → Option Nat → Int32 → Int32 → Option (Unit × St)) : Nat → St → Option Nat → Int32 → Int32 → Int32 → Int32 → Int64 → Int32 → Option (Unit × St)
  | 0 => fun _ _ _ _ _ _ _ _ => none
  | n + 1 => fun s x1 x2 x3 x4 x5 x6 x8 => if (4 : Int32) ≤ x8 then (gd (inb x3 6) <| nam (setI s 28 x3.toNatClampNeg x5) fun s3 => k6 s3 x1 x2 (x3 + (1))) else (bnd (F_X0_beside s x4 x8) fun r5 s6 => if r5 = (-1 : Int32) then (F_X0_hears_64 k6 n s6 x1 x2 x3 x4 x5 x6 (x8 + (1))) else (bnd (F_X0_canGo s6 (some 28) x3 r5) fun r9 s10 => if r9 = 0 then (F_X0_hears_64 k6 n s10 x1 x2 x3 x4 x5 x6 (x8 + (1))) else (gd (inb x3 6) <| nam (setI s10 28 x3.toNatClampNeg r5) fun s14 => bnd (F_X0_chance s14 x3 x1 (some 28)) fun r16 s17 => gd (inb x3 6) <| nam (setI s17 28 x3.toNatClampNeg x4) fun s20 => if x6 < r16 then (F_X0_hears_64 k6 n s20 x1 x2 x3 x4 r5 r16 (x8 + (1))) else (F_X0_hears_64 k6 n s20 x1 x2 x3 x4 x5 x6 (x8 + (1))))))
set_option maxHeartbeats 4000000 in
theorem w_X0_hears_64 {X : CX} {E : EV} {a0 s' : St} {r : Unit} (B : FX X E cX0_hears 12 none "RoseThrow" "hears" (sn a0) (ss a0) 246 13739) (hS : ∀ σ, eSk E σ ↔ SkC σ) (k6 : St → Option Nat → Int32 → Int32 → Option (Unit × St)) (hk6 : ∀ (s : St) (x1 : Option Nat) (x2 : Int32) (x3 : Int32), k6 s x1 x2 x3 = some (r, s') → J X E (sn a0) (ss a0) 12 (QR X E a0 none s') s 6 [(0, vr (some 0)), (1, vr x1), (2, vi x2), (3, vi x3)] []) : ∀ (n : Nat) (s : St) (x1 : Option Nat) (x2 : Int32) (x3 : Int32) (x4 : Int32) (x5 : Int32) (x6 : Int64) (x8 : Int32), F_X0_hears_64  k6 n s x1 x2 x3 x4 x5 x6 x8 = some (r, s') → J X E (sn a0) (ss a0) 12 (QR X E a0 none s') s 64 [(0, vr (some 0)), (1, vr x1), (2, vi x2), (3, vi x3), (4, vi x4), (5, vi x5), (6, vl x6), (8, vi x8)] [] := by
  intro n
  induction n with
  | zero => intro s x1 x2 x3 x4 x5 x6 x8 h; exact absurd (show (none : Option (Unit × St)) = _ from h) (by simp)
  | succ n ih =>
    intro s x1 x2 x3 x4 x5 x6 x8 h
    rw [F_X0_hears_64] at h
    refine r_iload (j := 7) B dX0_hears_64 rfl ?_
    refine r_iconst (v := 4) B dX0_hears_66 (by decide) ?_
    refine r_ic_ge (tgt := 155) B dX0_hears_67 (by decide) (fun cn1 => ?_) (fun cn1 => ?_)
    · have h := ot cn1 h
      refine r_aload_n (j := 0) B dX0_hears_155 rfl rfl ?_
      refine g0 (k := 21) B (vr (some 28)) rfl (fun z => by rw [((hS _).1 z).1 0 (by decide)]; rfl) rfl q377 rfl (fun z => by rw [((hS _).1 z).2 _ (List.mem_of_getElem? (i := 14) rfl)]; rfl) dX0_hears_156 ?_
      refine r_iload_n (j := 3) B dX0_hears_159 rfl rfl ?_
      refine r_iload (j := 5) B dX0_hears_160 rfl ?_
      obtain ⟨hg2, h⟩ := gd_e h
      obtain ⟨s3, e4, h⟩ := nam_e h
      refine r_iast B e4 rfl (fun z => ((hS _).1 z).1 28 (by decide)) hg2 dX0_hears_162 ?_
      refine r_iinc (j := 3) (v := (x3 + (1))) (L' := [(0, vr (some 0)), (1, vr x1), (2, vi x2), (3, vi (x3 + (1))), (4, vi x4), (5, vi x5), (6, vl x6), (8, vi x8)]) B dX0_hears_163 rfl rfl (by decide) rfl rfl rfl ?_
      refine r_goto (tgt := 6) B dX0_hears_166 (by decide) ?_
      refine r_pick [0, 1, 2, 3] (L' := [(0, vr (some 0)), (1, vr x1), (2, vi x2), (3, vi (x3 + (1)))]) rfl ?_
      exact hk6 s3 x1 x2 (x3 + (1)) h
    · have h := of cn1 h
      refine r_iload (j := 4) B dX0_hears_70 rfl ?_
      refine r_iload (j := 7) B dX0_hears_72 rfl ?_
      obtain ⟨r5, s6, hc7, h⟩ := bnd_e h
      refine r_callSv (As := [vi x4, vi x8]) (rest := []) B rfl EX.same (c_X0_beside B.ge hS hc7) (cw_X0_beside rfl rfl) q1365 q1366 rfl dX0_hears_74 ?_
      refine r_istore (L' := [(0, vr (some 0)), (1, vr x1), (2, vi x2), (3, vi x3), (4, vi x4), (5, vi x5), (6, vl x6), (8, vi x8), (9, vi r5)]) B dX0_hears_77 (by decide) rfl rfl rfl ?_
      refine r_iload (j := 8) B dX0_hears_79 rfl ?_
      refine r_iconst (v := -1) B dX0_hears_81 (by decide) ?_
      refine r_ic_eq (tgt := 149) B dX0_hears_82 (by decide) (fun cn8 => ?_) (fun cn8 => ?_)
      · have h := ot cn8 h
        refine r_iinc (j := 7) (v := (x8 + (1))) (L' := [(0, vr (some 0)), (1, vr x1), (2, vi x2), (3, vi x3), (4, vi x4), (5, vi x5), (6, vl x6), (8, vi (x8 + (1))), (9, vi r5)]) B dX0_hears_149 rfl rfl (by decide) rfl rfl rfl ?_
        refine r_goto (tgt := 64) B dX0_hears_152 (by decide) ?_
        refine r_pick [0, 1, 2, 3, 4, 5, 6, 7] (L' := [(0, vr (some 0)), (1, vr x1), (2, vi x2), (3, vi x3), (4, vi x4), (5, vi x5), (6, vl x6), (8, vi (x8 + (1)))]) rfl ?_
        exact ih s6 x1 x2 x3 x4 x5 x6 (x8 + (1)) h
      · have h := of cn8 h
        refine r_aload_n (j := 0) B dX0_hears_85 rfl rfl ?_
        refine r_aload_n (j := 0) B dX0_hears_86 rfl rfl ?_
        refine g0 (k := 21) B (vr (some 28)) rfl (fun z => by rw [((hS _).1 z).1 0 (by decide)]; rfl) rfl q377 rfl (fun z => by rw [((hS _).1 z).2 _ (List.mem_of_getElem? (i := 14) rfl)]; rfl) dX0_hears_87 ?_
        refine r_iload_n (j := 3) B dX0_hears_90 rfl rfl ?_
        refine r_iload (j := 8) B dX0_hears_91 rfl ?_
        obtain ⟨r9, s10, hc11, h⟩ := bnd_e h
        refine r_callVv (As := [vr (some 28), vi x3, vi r5]) (rest := []) B rfl rfl EX.same (c_X0_canGo B.ge hS hc11) (cw_X0_canGo rfl rfl) (fun z => RV.of 0 (by rw [((hS _).1 z).1 0 (by decide)]; rfl) rfl rfl qs21) q1213 q1215 rfl dX0_hears_93 ?_
        refine r_if_ne (tgt := 102) B dX0_hears_96 (by decide) (fun cn12 => ?_) (fun cn12 => ?_)
        · have h := of cn12 h
          refine r_aload_n (j := 0) B dX0_hears_102 rfl rfl ?_
          refine g0 (k := 21) B (vr (some 28)) rfl (fun z => by rw [((hS _).1 z).1 0 (by decide)]; rfl) rfl q377 rfl (fun z => by rw [((hS _).1 z).2 _ (List.mem_of_getElem? (i := 14) rfl)]; rfl) dX0_hears_103 ?_
          refine r_iload_n (j := 3) B dX0_hears_106 rfl rfl ?_
          refine r_iload (j := 8) B dX0_hears_107 rfl ?_
          obtain ⟨hg13, h⟩ := gd_e h
          obtain ⟨s14, e15, h⟩ := nam_e h
          refine r_iast B e15 rfl (fun z => ((hS _).1 z).1 28 (by decide)) hg13 dX0_hears_109 ?_
          refine r_aload_n (j := 0) B dX0_hears_110 rfl rfl ?_
          refine r_iload_n (j := 3) B dX0_hears_111 rfl rfl ?_
          refine r_aload_n (j := 1) B dX0_hears_112 rfl rfl ?_
          refine r_aload_n (j := 0) B dX0_hears_113 rfl rfl ?_
          refine g0 (k := 21) B (vr (some 28)) rfl (fun z => by rw [((hS _).1 z).1 0 (by decide)]; rfl) rfl q377 rfl (fun z => by rw [((hS _).1 z).2 _ (List.mem_of_getElem? (i := 14) rfl)]; rfl) dX0_hears_114 ?_
          obtain ⟨r16, s17, hc18, h⟩ := bnd_e h
          refine r_callVv (As := [vi x3, vr x1, vr (some 28)]) (rest := []) B rfl rfl EX.same (c_X0_chance B.ge hS hc18) (cw_X0_chance rfl rfl) (fun z => RV.of 0 (by rw [((hS _).1 z).1 0 (by decide)]; rfl) rfl rfl qs30) q1291 q1293 rfl dX0_hears_117 ?_
          refine r_lstore (L' := [(0, vr (some 0)), (1, vr x1), (2, vi x2), (3, vi x3), (4, vi x4), (5, vi x5), (6, vl x6), (8, vi x8), (9, vi r5), (10, vl r16)]) B dX0_hears_120 (by decide) rfl rfl rfl ?_
          refine r_aload_n (j := 0) B dX0_hears_122 rfl rfl ?_
          refine g0 (k := 21) B (vr (some 28)) rfl (fun z => by rw [((hS _).1 z).1 0 (by decide)]; rfl) rfl q377 rfl (fun z => by rw [((hS _).1 z).2 _ (List.mem_of_getElem? (i := 14) rfl)]; rfl) dX0_hears_123 ?_
          refine r_iload_n (j := 3) B dX0_hears_126 rfl rfl ?_
          refine r_iload (j := 4) B dX0_hears_127 rfl ?_
          obtain ⟨hg19, h⟩ := gd_e h
          obtain ⟨s20, e21, h⟩ := nam_e h
          refine r_iast B e21 rfl (fun z => ((hS _).1 z).1 28 (by decide)) hg19 dX0_hears_129 ?_
          refine r_lload (j := 9) B dX0_hears_130 rfl ?_
          refine r_lload (j := 6) B dX0_hears_132 rfl ?_
          refine r_lcmp B dX0_hears_134 ?_
          refine r_if_gt (tgt := 141) B dX0_hears_135 (by decide) (fun cn22 => ?_) (fun cn22 => ?_)
          · have h := ot (lc_gt.mp cn22) h
            refine r_lload (j := 9) B dX0_hears_141 rfl ?_
            refine r_lstore (L' := [(0, vr (some 0)), (1, vr x1), (2, vi x2), (3, vi x3), (4, vi x4), (5, vi x5), (6, vl r16), (8, vi x8), (9, vi r5), (10, vl r16)]) B dX0_hears_143 (by decide) rfl rfl rfl ?_
            refine r_iload (j := 8) B dX0_hears_145 rfl ?_
            refine r_istore (L' := [(0, vr (some 0)), (1, vr x1), (2, vi x2), (3, vi x3), (4, vi x4), (5, vi r5), (6, vl r16), (8, vi x8), (9, vi r5), (10, vl r16)]) B dX0_hears_147 (by decide) rfl rfl rfl ?_
            refine r_iinc (j := 7) (v := (x8 + (1))) (L' := [(0, vr (some 0)), (1, vr x1), (2, vi x2), (3, vi x3), (4, vi x4), (5, vi r5), (6, vl r16), (8, vi (x8 + (1))), (9, vi r5), (10, vl r16)]) B dX0_hears_149 rfl rfl (by decide) rfl rfl rfl ?_
            refine r_goto (tgt := 64) B dX0_hears_152 (by decide) ?_
            refine r_pick [0, 1, 2, 3, 4, 5, 6, 7] (L' := [(0, vr (some 0)), (1, vr x1), (2, vi x2), (3, vi x3), (4, vi x4), (5, vi r5), (6, vl r16), (8, vi (x8 + (1)))]) rfl ?_
            exact ih s20 x1 x2 x3 x4 r5 r16 (x8 + (1)) h
          · have h := of (fun z => cn22 (lc_gt.mpr z)) h
            refine r_goto (tgt := 149) B dX0_hears_138 (by decide) ?_
            refine r_iinc (j := 7) (v := (x8 + (1))) (L' := [(0, vr (some 0)), (1, vr x1), (2, vi x2), (3, vi x3), (4, vi x4), (5, vi x5), (6, vl x6), (8, vi (x8 + (1))), (9, vi r5), (10, vl r16)]) B dX0_hears_149 rfl rfl (by decide) rfl rfl rfl ?_
            refine r_goto (tgt := 64) B dX0_hears_152 (by decide) ?_
            refine r_pick [0, 1, 2, 3, 4, 5, 6, 7] (L' := [(0, vr (some 0)), (1, vr x1), (2, vi x2), (3, vi x3), (4, vi x4), (5, vi x5), (6, vl x6), (8, vi (x8 + (1)))]) rfl ?_
            exact ih s20 x1 x2 x3 x4 x5 x6 (x8 + (1)) h
        · have h := ot cn12 h
          refine r_goto (tgt := 149) B dX0_hears_99 (by decide) ?_
          refine r_iinc (j := 7) (v := (x8 + (1))) (L' := [(0, vr (some 0)), (1, vr x1), (2, vi x2), (3, vi x3), (4, vi x4), (5, vi x5), (6, vl x6), (8, vi (x8 + (1))), (9, vi r5)]) B dX0_hears_149 rfl rfl (by decide) rfl rfl rfl ?_
          refine r_goto (tgt := 64) B dX0_hears_152 (by decide) ?_
          refine r_pick [0, 1, 2, 3, 4, 5, 6, 7] (L' := [(0, vr (some 0)), (1, vr x1), (2, vi x2), (3, vi x3), (4, vi x4), (5, vi x5), (6, vl x6), (8, vi (x8 + (1)))]) rfl ?_
          exact ih s10 x1 x2 x3 x4 x5 x6 (x8 + (1)) h
set_option maxHeartbeats 4000000 in
noncomputable def F_X0_hears_6 : Nat → St → Option Nat → Int32 → Int32 → Option (Unit × St)
  | 0 => fun _ _ _ _ => none
  | n + 1 => fun s x1 x2 x3 => if (si s 2 8) ≤ x3 then (some ((), s)) else (if x3 = x2 then (F_X0_hears_6  n s x1 x2 (x3 + (1))) else (gd (inb x3 6) <| if 0 < (si s 5 x3.toNatClampNeg) then (gd (inb x3 6) <| bnd (F_X0_chance s x3 x1 (some 28)) fun r6 s7 => F_X0_hears_64 (F_X0_hears_6  n) FU s7 x1 x2 x3 (si s 28 x3.toNatClampNeg) (si s 28 x3.toNatClampNeg) r6 (0 : Int32)) else (F_X0_hears_6  n s x1 x2 (x3 + (1)))))
set_option maxHeartbeats 4000000 in
theorem w_X0_hears_6 {X : CX} {E : EV} {a0 s' : St} {r : Unit} (B : FX X E cX0_hears 12 none "RoseThrow" "hears" (sn a0) (ss a0) 246 13739) (hS : ∀ σ, eSk E σ ↔ SkC σ) : ∀ (n : Nat) (s : St) (x1 : Option Nat) (x2 : Int32) (x3 : Int32), F_X0_hears_6   n s x1 x2 x3 = some (r, s') → J X E (sn a0) (ss a0) 12 (QR X E a0 none s') s 6 [(0, vr (some 0)), (1, vr x1), (2, vi x2), (3, vi x3)] [] := by
  intro n
  induction n with
  | zero => intro s x1 x2 x3 h; exact absurd (show (none : Option (Unit × St)) = _ from h) (by simp)
  | succ n ih =>
    intro s x1 x2 x3 h
    rw [F_X0_hears_6] at h
    refine r_iload_n (j := 3) B dX0_hears_6 rfl rfl ?_
    refine r_aload_n (j := 0) B dX0_hears_7 rfl rfl ?_
    refine g0 (k := 2) B (vr (some 2)) rfl (fun z => by rw [((hS _).1 z).1 0 (by decide)]; rfl) rfl q358 rfl (fun z => by rw [((hS _).1 z).2 _ (List.mem_of_getElem? (i := 1) rfl)]; rfl) dX0_hears_8 ?_
    refine g1N (k := 8) B (vi (si s 2 8)) rfl (fun z => by rw [((hS _).1 z).1 2 (by decide)]; rfl) rfl (lw_n q222 rfl) rfl (fun _ => rfl) dX0_hears_11 ?_
    refine r_ic_ge (tgt := 169) B dX0_hears_14 (by decide) (fun cn1 => ?_) (fun cn1 => ?_)
    · have h := ot cn1 h
      exact r_vret B dX0_hears_169 h
    · have h := of cn1 h
      refine r_iload_n (j := 3) B dX0_hears_17 rfl rfl ?_
      refine r_iload_n (j := 2) B dX0_hears_18 rfl rfl ?_
      refine r_ic_eq (tgt := 163) B dX0_hears_19 (by decide) (fun cn2 => ?_) (fun cn2 => ?_)
      · have h := ot cn2 h
        refine r_iinc (j := 3) (v := (x3 + (1))) (L' := [(0, vr (some 0)), (1, vr x1), (2, vi x2), (3, vi (x3 + (1)))]) B dX0_hears_163 rfl rfl (by decide) rfl rfl rfl ?_
        refine r_goto (tgt := 6) B dX0_hears_166 (by decide) ?_
        exact ih s x1 x2 (x3 + (1)) h
      · have h := of cn2 h
        refine r_aload_n (j := 0) B dX0_hears_22 rfl rfl ?_
        refine g0 (k := 2) B (vr (some 2)) rfl (fun z => by rw [((hS _).1 z).1 0 (by decide)]; rfl) rfl q358 rfl (fun z => by rw [((hS _).1 z).2 _ (List.mem_of_getElem? (i := 1) rfl)]; rfl) dX0_hears_23 ?_
        refine g1N (k := 2) B (vr (some 5)) rfl (fun z => by rw [((hS _).1 z).1 2 (by decide)]; rfl) rfl (lw_n q210 rfl) rfl (fun z => by rw [((hS _).1 z).2 _ (List.mem_of_getElem? (i := 19) rfl)]; rfl) dX0_hears_26 ?_
        refine r_iload_n (j := 3) B dX0_hears_29 rfl rfl ?_
        obtain ⟨hg3, h⟩ := gd_e h
        refine r_iald B rfl (fun z => ((hS _).1 z).1 5 (by decide)) hg3 dX0_hears_30 ?_
        refine r_if_gt (tgt := 37) B dX0_hears_31 (by decide) (fun cn4 => ?_) (fun cn4 => ?_)
        · have h := ot cn4 h
          refine r_aload_n (j := 0) B dX0_hears_37 rfl rfl ?_
          refine g0 (k := 21) B (vr (some 28)) rfl (fun z => by rw [((hS _).1 z).1 0 (by decide)]; rfl) rfl q377 rfl (fun z => by rw [((hS _).1 z).2 _ (List.mem_of_getElem? (i := 14) rfl)]; rfl) dX0_hears_38 ?_
          refine r_iload_n (j := 3) B dX0_hears_41 rfl rfl ?_
          obtain ⟨hg5, h⟩ := gd_e h
          refine r_iald B rfl (fun z => ((hS _).1 z).1 28 (by decide)) hg5 dX0_hears_42 ?_
          refine r_istore (L' := [(0, vr (some 0)), (1, vr x1), (2, vi x2), (3, vi x3), (4, vi (si s 28 x3.toNatClampNeg))]) B dX0_hears_43 (by decide) rfl rfl rfl ?_
          refine r_iload (j := 4) B dX0_hears_45 rfl ?_
          refine r_istore (L' := [(0, vr (some 0)), (1, vr x1), (2, vi x2), (3, vi x3), (4, vi (si s 28 x3.toNatClampNeg)), (5, vi (si s 28 x3.toNatClampNeg))]) B dX0_hears_47 (by decide) rfl rfl rfl ?_
          refine r_aload_n (j := 0) B dX0_hears_49 rfl rfl ?_
          refine r_iload_n (j := 3) B dX0_hears_50 rfl rfl ?_
          refine r_aload_n (j := 1) B dX0_hears_51 rfl rfl ?_
          refine r_aload_n (j := 0) B dX0_hears_52 rfl rfl ?_
          refine g0 (k := 21) B (vr (some 28)) rfl (fun z => by rw [((hS _).1 z).1 0 (by decide)]; rfl) rfl q377 rfl (fun z => by rw [((hS _).1 z).2 _ (List.mem_of_getElem? (i := 14) rfl)]; rfl) dX0_hears_53 ?_
          obtain ⟨r6, s7, hc8, h⟩ := bnd_e h
          refine r_callVv (As := [vi x3, vr x1, vr (some 28)]) (rest := []) B rfl rfl EX.same (c_X0_chance B.ge hS hc8) (cw_X0_chance rfl rfl) (fun z => RV.of 0 (by rw [((hS _).1 z).1 0 (by decide)]; rfl) rfl rfl qs30) q1291 q1293 rfl dX0_hears_56 ?_
          refine r_lstore (L' := [(0, vr (some 0)), (1, vr x1), (2, vi x2), (3, vi x3), (4, vi (si s 28 x3.toNatClampNeg)), (5, vi (si s 28 x3.toNatClampNeg)), (6, vl r6)]) B dX0_hears_59 (by decide) rfl rfl rfl ?_
          refine r_iconst (v := 0) B dX0_hears_61 (by decide) ?_
          refine r_istore (L' := [(0, vr (some 0)), (1, vr x1), (2, vi x2), (3, vi x3), (4, vi (si s 28 x3.toNatClampNeg)), (5, vi (si s 28 x3.toNatClampNeg)), (6, vl r6), (8, vi (0 : Int32))]) B dX0_hears_62 (by decide) rfl rfl rfl ?_
          exact w_X0_hears_64 B hS (F_X0_hears_6  n) ih FU s7 x1 x2 x3 (si s 28 x3.toNatClampNeg) (si s 28 x3.toNatClampNeg) r6 (0 : Int32) h
        · have h := of cn4 h
          refine r_goto (tgt := 163) B dX0_hears_34 (by decide) ?_
          refine r_iinc (j := 3) (v := (x3 + (1))) (L' := [(0, vr (some 0)), (1, vr x1), (2, vi x2), (3, vi (x3 + (1)))]) B dX0_hears_163 rfl rfl (by decide) rfl rfl rfl ?_
          refine r_goto (tgt := 6) B dX0_hears_166 (by decide) ?_
          exact ih s x1 x2 (x3 + (1)) h
set_option maxHeartbeats 4000000 in
noncomputable def F_X0_hears (s : St) (p0 : Option Nat) (p1 : Int32) : Option (Unit × St) := bnd (F_X0_copies s) fun _ s2 => F_X0_hears_6 FU s2 p0 p1 (0 : Int32)
set_option maxHeartbeats 4000000 in
theorem c_X0_hears {l : Launch} {E : EV} (hE : GE E) (hS : ∀ σ, eSk E σ ↔ SkC σ) {s s' : St} {r : Unit} {p0 : Option Nat} {p1 : Int32} (h : F_X0_hears  s p0 p1 = some (r, s')) : CT l E yX0_hears cX0_hears 12 none 246 13739 [vr (some 0), vr p0, vi p1] s none s' := by
  refine CT.start hE (by decide) rfl [(0, vr (some 0)), (1, vr p0), (2, vi p1)] rfl (fun X hX B => ?_)
  skip
  have B : FX X E cX0_hears 12 none "RoseThrow" "hears" (sn s) (ss s) 246 13739 := B
  unfold F_X0_hears at h
  refine r_aload_n (j := 0) B dX0_hears_0 rfl rfl ?_
  obtain ⟨r1, s2, hc3, h⟩ := bnd_e h
  refine r_callV0 (As := []) (rest := []) B rfl rfl EX.same (c_X0_copies B.ge hS hc3) (cw_X0_copies rfl rfl) (fun z => RV.of 0 (by rw [((hS _).1 z).1 0 (by decide)]; rfl) rfl rfl qs33) q1318 q1320 rfl dX0_hears_1 ?_
  refine r_iconst (v := 0) B dX0_hears_4 (by decide) ?_
  refine r_istore_n (L' := [(0, vr (some 0)), (1, vr p0), (2, vi p1), (3, vi (0 : Int32))]) B dX0_hears_5 rfl (by decide) rfl rfl rfl ?_
  exact w_X0_hears_6 B hS FU s2 p0 p1 (0 : Int32) h
set_option maxHeartbeats 4000000 in
theorem cw_X0_hears {X : CX} {fr lo : Nat} (h1 : Nat.ble (246 + 1) fr = true) (h2 : Nat.ble (31 + 13739) lo = true) : CW X fr lo yX0_hears cX0_hears 12 none 246 13739 2 := ⟨q1364, q126, ⟨by decide +kernel, by decide +kernel, by decide +kernel⟩, Nat.le_of_ble_eq_true h1, Nat.le_of_ble_eq_true h2⟩

set_option maxHeartbeats 4000000 in
noncomputable def F_X0_heard_34 : Nat → St → Int32 → Int32 → Int32 → Int32 → Option (Int64 × St)
  | 0 => fun _ _ _ _ _ => none
  | n + 1 => fun s x1 x2 x3 x4 => if (25 : Int32) ≤ x4 then (bnd (F_X0_friendOf s x3 x2) fun r2 s3 => some (r2, s3)) else (gd (inb x4 25) <| bnd (F_X0_hears s (sr s 26 x4.toNatClampNeg) x1) fun _ s7 => gd (inb x4 25) <| bnd (F_X0_chance s7 x1 (sr s7 26 x4.toNatClampNeg) (some 28)) fun r10 s11 => gd (inb x4 25) <| drf (sr s11 26 x4.toNatClampNeg) fun a14 => gd (isK s11 a14 4) <| bnd (F_X4_lower s11 a14) fun r17 s18 => bnd (F_X0_isMore s18 r10 r17) fun r20 s21 => if r20 = 0 then (F_X0_heard_34  n s21 x1 x2 x3 (x4 + (1))) else (F_X0_heard_34  n s21 x1 x2 x4 (x4 + (1))))
set_option maxHeartbeats 4000000 in
theorem w_X0_heard_34 {X : CX} {E : EV} {a0 s' : St} {r : Int64} (B : FX X E cX0_heard 5 (some .long) "RoseThrow" "heard" (sn a0) (ss a0) 247 13770) (hS : ∀ σ, eSk E σ ↔ SkC σ) : ∀ (n : Nat) (s : St) (x1 : Int32) (x2 : Int32) (x3 : Int32) (x4 : Int32), F_X0_heard_34   n s x1 x2 x3 x4 = some (r, s') → J X E (sn a0) (ss a0) 5 (QR X E a0 (some (vl r)) s') s 34 [(0, vr (some 0)), (1, vi x1), (2, vi x2), (3, vi x3), (4, vi x4)] [] := by
  intro n
  induction n with
  | zero => intro s x1 x2 x3 x4 h; exact absurd (show (none : Option (Int64 × St)) = _ from h) (by simp)
  | succ n ih =>
    intro s x1 x2 x3 x4 h
    rw [F_X0_heard_34] at h
    refine r_iload (j := 4) B dX0_heard_34 rfl ?_
    refine r_bipush (v := 25) B dX0_heard_36 (by decide) ?_
    refine r_ic_ge (tgt := 95) B dX0_heard_38 (by decide) (fun cn1 => ?_) (fun cn1 => ?_)
    · have h := ot cn1 h
      refine r_aload_n (j := 0) B dX0_heard_95 rfl rfl ?_
      refine r_iload_n (j := 3) B dX0_heard_96 rfl rfl ?_
      refine r_iload_n (j := 2) B dX0_heard_97 rfl rfl ?_
      obtain ⟨r2, s3, hc4, h⟩ := bnd_e h
      refine r_callVv (As := [vi x3, vi x2]) (rest := []) B rfl rfl EX.same (c_X0_friendOf B.ge hS hc4) (cw_X0_friendOf rfl rfl) (fun z => RV.of 0 (by rw [((hS _).1 z).1 0 (by decide)]; rfl) rfl rfl qs39) q1350 q1352 rfl dX0_heard_98 ?_
      exact r_lret B dX0_heard_101 h
    · have h := of cn1 h
      refine r_aload_n (j := 0) B dX0_heard_41 rfl rfl ?_
      refine r_aload_n (j := 0) B dX0_heard_42 rfl rfl ?_
      refine g0 (k := 18) B (vr (some 26)) rfl (fun z => by rw [((hS _).1 z).1 0 (by decide)]; rfl) rfl q374 rfl (fun z => by rw [((hS _).1 z).2 _ (List.mem_of_getElem? (i := 12) rfl)]; rfl) dX0_heard_43 ?_
      refine r_iload (j := 4) B dX0_heard_46 rfl ?_
      obtain ⟨hg5, h⟩ := gd_e h
      refine r_aald 6 "RoseThrow$Flight" ⟨by decide, by decide, rfl⟩ B rfl (fun z => ((hS _).1 z).1 26 (by decide)) hg5 dX0_heard_48 ?_
      refine r_iload_n (j := 1) B dX0_heard_49 rfl rfl ?_
      obtain ⟨r6, s7, hc8, h⟩ := bnd_e h
      refine r_callV0 (As := [vr (sr s 26 x4.toNatClampNeg), vi x1]) (rest := []) B rfl rfl EX.same (c_X0_hears B.ge hS hc8) (cw_X0_hears rfl rfl) (fun z => RV.of 0 (by rw [((hS _).1 z).1 0 (by decide)]; rfl) rfl rfl qs40) q1361 q1363 rfl dX0_heard_50 ?_
      refine r_aload_n (j := 0) B dX0_heard_53 rfl rfl ?_
      refine r_aload_n (j := 0) B dX0_heard_54 rfl rfl ?_
      refine r_iload_n (j := 1) B dX0_heard_55 rfl rfl ?_
      refine r_aload_n (j := 0) B dX0_heard_56 rfl rfl ?_
      refine g0 (k := 18) B (vr (some 26)) rfl (fun z => by rw [((hS _).1 z).1 0 (by decide)]; rfl) rfl q374 rfl (fun z => by rw [((hS _).1 z).2 _ (List.mem_of_getElem? (i := 12) rfl)]; rfl) dX0_heard_57 ?_
      refine r_iload (j := 4) B dX0_heard_60 rfl ?_
      obtain ⟨hg9, h⟩ := gd_e h
      refine r_aald 6 "RoseThrow$Flight" ⟨by decide, by decide, rfl⟩ B rfl (fun z => ((hS _).1 z).1 26 (by decide)) hg9 dX0_heard_62 ?_
      refine r_aload_n (j := 0) B dX0_heard_63 rfl rfl ?_
      refine g0 (k := 21) B (vr (some 28)) rfl (fun z => by rw [((hS _).1 z).1 0 (by decide)]; rfl) rfl q377 rfl (fun z => by rw [((hS _).1 z).2 _ (List.mem_of_getElem? (i := 14) rfl)]; rfl) dX0_heard_64 ?_
      obtain ⟨r10, s11, hc12, h⟩ := bnd_e h
      refine r_callVv (As := [vi x1, vr (sr s7 26 x4.toNatClampNeg), vr (some 28)]) (rest := [vr (some 0)]) B rfl rfl EX.same (c_X0_chance B.ge hS hc12) (cw_X0_chance rfl rfl) (fun z => RV.of 0 (by rw [((hS _).1 z).1 0 (by decide)]; rfl) rfl rfl qs30) q1291 q1293 rfl dX0_heard_67 ?_
      refine r_aload_n (j := 0) B dX0_heard_70 rfl rfl ?_
      refine g0 (k := 18) B (vr (some 26)) rfl (fun z => by rw [((hS _).1 z).1 0 (by decide)]; rfl) rfl q374 rfl (fun z => by rw [((hS _).1 z).2 _ (List.mem_of_getElem? (i := 12) rfl)]; rfl) dX0_heard_71 ?_
      refine r_iload (j := 4) B dX0_heard_74 rfl ?_
      obtain ⟨hg13, h⟩ := gd_e h
      refine r_aald 6 "RoseThrow$Flight" ⟨by decide, by decide, rfl⟩ B rfl (fun z => ((hS _).1 z).1 26 (by decide)) hg13 dX0_heard_76 ?_
      obtain ⟨a14, ea15, h⟩ := drf_e h
      obtain ⟨hg16, h⟩ := gd_e h
      obtain ⟨r17, s18, hc19, h⟩ := bnd_e h
      refine r_callVv (As := []) (rest := [vl r10, vr (some 0)]) B rfl ea15 EX.same (c_X4_lower B.ge hS hc19) (cw_X4_lower rfl rfl) (fun z => RV.of 4 ((fun _ => isK_e hg16) z) rfl rfl q1311) q1309 q1310 rfl dX0_heard_77 ?_
      obtain ⟨r20, s21, hc22, h⟩ := bnd_e h
      refine r_callVv (As := [vl r10, vl r17]) (rest := []) B rfl rfl EX.same (c_X0_isMore B.ge hS hc22) (cw_X0_isMore rfl rfl) (fun z => RV.of 0 (by rw [((hS _).1 z).1 0 (by decide)]; rfl) rfl rfl qs38) q1346 q1348 rfl dX0_heard_80 ?_
      refine r_if_eq (tgt := 89) B dX0_heard_83 (by decide) (fun cn23 => ?_) (fun cn23 => ?_)
      · have h := ot cn23 h
        refine r_iinc (j := 4) (v := (x4 + (1))) (L' := [(0, vr (some 0)), (1, vi x1), (2, vi x2), (3, vi x3), (4, vi (x4 + (1)))]) B dX0_heard_89 rfl rfl (by decide) rfl rfl rfl ?_
        refine r_goto (tgt := 34) B dX0_heard_92 (by decide) ?_
        exact ih s21 x1 x2 x3 (x4 + (1)) h
      · have h := of cn23 h
        refine r_iload (j := 4) B dX0_heard_86 rfl ?_
        refine r_istore_n (L' := [(0, vr (some 0)), (1, vi x1), (2, vi x2), (3, vi x4), (4, vi x4)]) B dX0_heard_88 rfl (by decide) rfl rfl rfl ?_
        refine r_iinc (j := 4) (v := (x4 + (1))) (L' := [(0, vr (some 0)), (1, vi x1), (2, vi x2), (3, vi x4), (4, vi (x4 + (1)))]) B dX0_heard_89 rfl rfl (by decide) rfl rfl rfl ?_
        refine r_goto (tgt := 34) B dX0_heard_92 (by decide) ?_
        exact ih s21 x1 x2 x4 (x4 + (1)) h
set_option maxHeartbeats 4000000 in
noncomputable def F_X0_heard (s : St) (p0 : Int32) (p1 : Int32) : Option (Int64 × St) := bnd (F_X0_isCatcher s p0) fun r1 s2 => if r1 = 0 then (some ((-1 : Int64), s2)) else (bnd (F_X0_in s2 p1 (0 : Int32) (3 : Int32)) fun r5 s6 => if r5 = 0 then (some ((-1 : Int64), s6)) else (bnd (F_X0_looksAtAll s6) fun _ s10 => bnd (F_X0_none s10) fun _ s13 => F_X0_heard_34 FU s13 p0 p1 (0 : Int32) (0 : Int32)))
set_option maxHeartbeats 4000000 in
theorem c_X0_heard {l : Launch} {E : EV} (hE : GE E) (hS : ∀ σ, eSk E σ ↔ SkC σ) {s s' : St} {r : Int64} {p0 : Int32} {p1 : Int32} (h : F_X0_heard  s p0 p1 = some (r, s')) : CT l E yX0_heard cX0_heard 5 (some .long) 247 13770 [vr (some 0), vi p0, vi p1] s (some (vl r)) s' := by
  refine CT.start hE (by decide) rfl [(0, vr (some 0)), (1, vi p0), (2, vi p1)] rfl (fun X hX B => ?_)
  skip
  have B : FX X E cX0_heard 5 (some .long) "RoseThrow" "heard" (sn s) (ss s) 247 13770 := B
  unfold F_X0_heard at h
  refine r_aload_n (j := 0) B dX0_heard_0 rfl rfl ?_
  refine r_iload_n (j := 1) B dX0_heard_1 rfl rfl ?_
  obtain ⟨r1, s2, hc3, h⟩ := bnd_e h
  refine r_callVv (As := [vi p0]) (rest := []) B rfl rfl EX.same (c_X0_isCatcher B.ge hS hc3) (cw_X0_isCatcher rfl rfl) (fun z => RV.of 0 (by rw [((hS _).1 z).1 0 (by decide)]; rfl) rfl rfl qs12) q654 q656 rfl dX0_heard_2 ?_
  refine r_if_eq (tgt := 17) B dX0_heard_5 (by decide) (fun cn4 => ?_) (fun cn4 => ?_)
  · have h := ot cn4 h
    refine r_ldc2 B dX0_heard_17 q575 ?_
    exact r_lret B dX0_heard_20 h
  · have h := of cn4 h
    refine r_iload_n (j := 2) B dX0_heard_8 rfl rfl ?_
    refine r_iconst (v := 0) B dX0_heard_9 (by decide) ?_
    refine r_iconst (v := 3) B dX0_heard_10 (by decide) ?_
    obtain ⟨r5, s6, hc7, h⟩ := bnd_e h
    refine r_callSv (As := [vi p1, vi (0 : Int32), vi (3 : Int32)]) (rest := []) B rfl EX.same (c_X0_in B.ge hS hc7) (cw_X0_in rfl rfl) q445 q446 rfl dX0_heard_11 ?_
    refine r_if_ne (tgt := 21) B dX0_heard_14 (by decide) (fun cn8 => ?_) (fun cn8 => ?_)
    · have h := of cn8 h
      refine r_aload_n (j := 0) B dX0_heard_21 rfl rfl ?_
      obtain ⟨r9, s10, hc11, h⟩ := bnd_e h
      refine r_callV0 (As := []) (rest := []) B rfl rfl EX.same (c_X0_looksAtAll B.ge hS hc11) (cw_X0_looksAtAll rfl rfl) (fun z => RV.of 0 (by rw [((hS _).1 z).1 0 (by decide)]; rfl) rfl rfl qs36) q1338 q1340 rfl dX0_heard_22 ?_
      refine r_aload_n (j := 0) B dX0_heard_25 rfl rfl ?_
      obtain ⟨r12, s13, hc14, h⟩ := bnd_e h
      refine r_callV0 (As := []) (rest := []) B rfl rfl EX.same (c_X0_none B.ge hS hc14) (cw_X0_none rfl rfl) (fun z => RV.of 0 (by rw [((hS _).1 z).1 0 (by decide)]; rfl) rfl rfl qs37) q1342 q1344 rfl dX0_heard_26 ?_
      refine r_iconst (v := 0) B dX0_heard_29 (by decide) ?_
      refine r_istore_n (L' := [(0, vr (some 0)), (1, vi p0), (2, vi p1), (3, vi (0 : Int32))]) B dX0_heard_30 rfl (by decide) rfl rfl rfl ?_
      refine r_iconst (v := 0) B dX0_heard_31 (by decide) ?_
      refine r_istore (L' := [(0, vr (some 0)), (1, vi p0), (2, vi p1), (3, vi (0 : Int32)), (4, vi (0 : Int32))]) B dX0_heard_32 (by decide) rfl rfl rfl ?_
      exact w_X0_heard_34 B hS FU s13 p0 p1 (0 : Int32) (0 : Int32) h
    · have h := ot cn8 h
      refine r_ldc2 B dX0_heard_17 q575 ?_
      exact r_lret B dX0_heard_20 h
set_option maxHeartbeats 4000000 in
theorem cw_X0_heard {X : CX} {fr lo : Nat} (h1 : Nat.ble (247 + 1) fr = true) (h2 : Nat.ble (24 + 13770) lo = true) : CW X fr lo yX0_heard cX0_heard 5 (some .long) 247 13770 2 := ⟨q1360, q126, ⟨by decide +kernel, by decide +kernel, by decide +kernel⟩, Nat.le_of_ble_eq_true h1, Nat.le_of_ble_eq_true h2⟩

set_option maxHeartbeats 4000000 in
noncomputable def F_X0_feint_59 (k37 : St → Int32 → Int32 → Int32 → Int32 → Int32 → Option (Int64 × St)) : Nat → St → Int32 → Int32 → Int32 → Int32 → Int32 → Int32 → Option (Int64 × St)
  | 0 => fun _ _ _ _ _ _ _ => none
  | n + 1 => fun s x1 x2 x3 x4 x5 x6 => if (25 : Int32) ≤ x6 then (k37 s x1 x2 x3 x4 (x5 + (1))) else (gd (inb x6 25) <| bnd (F_X0_chance s x1 (sr s 26 x6.toNatClampNeg) (some 28)) fun r3 s4 => gd (inb x6 25) <| drf (sr s4 26 x6.toNatClampNeg) fun a7 => gd (isK s4 a7 4) <| bnd (F_X4_lower s4 a7) fun r10 s11 => bnd (F_X0_isMore s11 r3 r10) fun r13 s14 => if r13 = 0 then (F_X0_feint_59 k37 n s14 x1 x2 x3 x4 x5 (x6 + (1))) else (F_X0_feint_59 k37 n s14 x1 x2 x5 x6 x5 (x6 + (1))))
set_option maxHeartbeats 4000000 in
theorem w_X0_feint_59 {X : CX} {E : EV} {a0 s' : St} {r : Int64} (B : FX X E cX0_feint 7 (some .long) "RoseThrow" "feint" (sn a0) (ss a0) 247 13770) (hS : ∀ σ, eSk E σ ↔ SkC σ) (k37 : St → Int32 → Int32 → Int32 → Int32 → Int32 → Option (Int64 × St)) (hk37 : ∀ (s : St) (x1 : Int32) (x2 : Int32) (x3 : Int32) (x4 : Int32) (x5 : Int32), k37 s x1 x2 x3 x4 x5 = some (r, s') → J X E (sn a0) (ss a0) 7 (QR X E a0 (some (vl r)) s') s 37 [(0, vr (some 0)), (1, vi x1), (2, vi x2), (3, vi x3), (4, vi x4), (5, vi x5)] []) : ∀ (n : Nat) (s : St) (x1 : Int32) (x2 : Int32) (x3 : Int32) (x4 : Int32) (x5 : Int32) (x6 : Int32), F_X0_feint_59  k37 n s x1 x2 x3 x4 x5 x6 = some (r, s') → J X E (sn a0) (ss a0) 7 (QR X E a0 (some (vl r)) s') s 59 [(0, vr (some 0)), (1, vi x1), (2, vi x2), (3, vi x3), (4, vi x4), (5, vi x5), (6, vi x6)] [] := by
  intro n
  induction n with
  | zero => intro s x1 x2 x3 x4 x5 x6 h; exact absurd (show (none : Option (Int64 × St)) = _ from h) (by simp)
  | succ n ih =>
    intro s x1 x2 x3 x4 x5 x6 h
    rw [F_X0_feint_59] at h
    refine r_iload (j := 6) B dX0_feint_59 rfl ?_
    refine r_bipush (v := 25) B dX0_feint_61 (by decide) ?_
    refine r_ic_ge (tgt := 115) B dX0_feint_63 (by decide) (fun cn1 => ?_) (fun cn1 => ?_)
    · have h := ot cn1 h
      refine r_iinc (j := 5) (v := (x5 + (1))) (L' := [(0, vr (some 0)), (1, vi x1), (2, vi x2), (3, vi x3), (4, vi x4), (5, vi (x5 + (1))), (6, vi x6)]) B dX0_feint_115 rfl rfl (by decide) rfl rfl rfl ?_
      refine r_goto (tgt := 37) B dX0_feint_118 (by decide) ?_
      refine r_pick [0, 1, 2, 3, 4, 5] (L' := [(0, vr (some 0)), (1, vi x1), (2, vi x2), (3, vi x3), (4, vi x4), (5, vi (x5 + (1)))]) rfl ?_
      exact hk37 s x1 x2 x3 x4 (x5 + (1)) h
    · have h := of cn1 h
      refine r_aload_n (j := 0) B dX0_feint_66 rfl rfl ?_
      refine r_aload_n (j := 0) B dX0_feint_67 rfl rfl ?_
      refine r_iload_n (j := 1) B dX0_feint_68 rfl rfl ?_
      refine r_aload_n (j := 0) B dX0_feint_69 rfl rfl ?_
      refine g0 (k := 18) B (vr (some 26)) rfl (fun z => by rw [((hS _).1 z).1 0 (by decide)]; rfl) rfl q374 rfl (fun z => by rw [((hS _).1 z).2 _ (List.mem_of_getElem? (i := 12) rfl)]; rfl) dX0_feint_70 ?_
      refine r_iload (j := 6) B dX0_feint_73 rfl ?_
      obtain ⟨hg2, h⟩ := gd_e h
      refine r_aald 6 "RoseThrow$Flight" ⟨by decide, by decide, rfl⟩ B rfl (fun z => ((hS _).1 z).1 26 (by decide)) hg2 dX0_feint_75 ?_
      refine r_aload_n (j := 0) B dX0_feint_76 rfl rfl ?_
      refine g0 (k := 21) B (vr (some 28)) rfl (fun z => by rw [((hS _).1 z).1 0 (by decide)]; rfl) rfl q377 rfl (fun z => by rw [((hS _).1 z).2 _ (List.mem_of_getElem? (i := 14) rfl)]; rfl) dX0_feint_77 ?_
      obtain ⟨r3, s4, hc5, h⟩ := bnd_e h
      refine r_callVv (As := [vi x1, vr (sr s 26 x6.toNatClampNeg), vr (some 28)]) (rest := [vr (some 0)]) B rfl rfl EX.same (c_X0_chance B.ge hS hc5) (cw_X0_chance rfl rfl) (fun z => RV.of 0 (by rw [((hS _).1 z).1 0 (by decide)]; rfl) rfl rfl qs30) q1291 q1293 rfl dX0_feint_80 ?_
      refine r_aload_n (j := 0) B dX0_feint_83 rfl rfl ?_
      refine g0 (k := 18) B (vr (some 26)) rfl (fun z => by rw [((hS _).1 z).1 0 (by decide)]; rfl) rfl q374 rfl (fun z => by rw [((hS _).1 z).2 _ (List.mem_of_getElem? (i := 12) rfl)]; rfl) dX0_feint_84 ?_
      refine r_iload (j := 6) B dX0_feint_87 rfl ?_
      obtain ⟨hg6, h⟩ := gd_e h
      refine r_aald 6 "RoseThrow$Flight" ⟨by decide, by decide, rfl⟩ B rfl (fun z => ((hS _).1 z).1 26 (by decide)) hg6 dX0_feint_89 ?_
      obtain ⟨a7, ea8, h⟩ := drf_e h
      obtain ⟨hg9, h⟩ := gd_e h
      obtain ⟨r10, s11, hc12, h⟩ := bnd_e h
      refine r_callVv (As := []) (rest := [vl r3, vr (some 0)]) B rfl ea8 EX.same (c_X4_lower B.ge hS hc12) (cw_X4_lower rfl rfl) (fun z => RV.of 4 ((fun _ => isK_e hg9) z) rfl rfl q1311) q1309 q1310 rfl dX0_feint_90 ?_
      obtain ⟨r13, s14, hc15, h⟩ := bnd_e h
      refine r_callVv (As := [vl r3, vl r10]) (rest := []) B rfl rfl EX.same (c_X0_isMore B.ge hS hc15) (cw_X0_isMore rfl rfl) (fun z => RV.of 0 (by rw [((hS _).1 z).1 0 (by decide)]; rfl) rfl rfl qs38) q1346 q1348 rfl dX0_feint_93 ?_
      refine r_if_ne (tgt := 102) B dX0_feint_96 (by decide) (fun cn16 => ?_) (fun cn16 => ?_)
      · have h := of cn16 h
        refine r_iload (j := 5) B dX0_feint_102 rfl ?_
        refine r_istore_n (L' := [(0, vr (some 0)), (1, vi x1), (2, vi x2), (3, vi x5), (4, vi x4), (5, vi x5), (6, vi x6)]) B dX0_feint_104 rfl (by decide) rfl rfl rfl ?_
        refine r_iload (j := 6) B dX0_feint_105 rfl ?_
        refine r_istore (L' := [(0, vr (some 0)), (1, vi x1), (2, vi x2), (3, vi x5), (4, vi x6), (5, vi x5), (6, vi x6)]) B dX0_feint_107 (by decide) rfl rfl rfl ?_
        refine r_iinc (j := 6) (v := (x6 + (1))) (L' := [(0, vr (some 0)), (1, vi x1), (2, vi x2), (3, vi x5), (4, vi x6), (5, vi x5), (6, vi (x6 + (1)))]) B dX0_feint_109 rfl rfl (by decide) rfl rfl rfl ?_
        refine r_goto (tgt := 59) B dX0_feint_112 (by decide) ?_
        exact ih s14 x1 x2 x5 x6 x5 (x6 + (1)) h
      · have h := ot cn16 h
        refine r_goto (tgt := 109) B dX0_feint_99 (by decide) ?_
        refine r_iinc (j := 6) (v := (x6 + (1))) (L' := [(0, vr (some 0)), (1, vi x1), (2, vi x2), (3, vi x3), (4, vi x4), (5, vi x5), (6, vi (x6 + (1)))]) B dX0_feint_109 rfl rfl (by decide) rfl rfl rfl ?_
        refine r_goto (tgt := 59) B dX0_feint_112 (by decide) ?_
        exact ih s14 x1 x2 x3 x4 x5 (x6 + (1)) h
set_option maxHeartbeats 4000000 in
noncomputable def F_X0_feint_37 : Nat → St → Int32 → Int32 → Int32 → Int32 → Int32 → Option (Int64 × St)
  | 0 => fun _ _ _ _ _ _ => none
  | n + 1 => fun s x1 x2 x3 x4 x5 => if (25 : Int32) ≤ x5 then (if (2 : Int32) ≤ x2 then (bnd (F_X0_friendOf s x4 (x2 - (2 : Int32))) fun r3 s4 => some (r3, s4)) else (bnd (F_X0_friendOf s x3 x2) fun r6 s7 => some (r6, s7))) else (gd (inb x5 25) <| bnd (F_X0_hears s (sr s 26 x5.toNatClampNeg) x1) fun _ s11 => F_X0_feint_59 (F_X0_feint_37  n) FU s11 x1 x2 x3 x4 x5 (0 : Int32))
set_option maxHeartbeats 4000000 in
theorem w_X0_feint_37 {X : CX} {E : EV} {a0 s' : St} {r : Int64} (B : FX X E cX0_feint 7 (some .long) "RoseThrow" "feint" (sn a0) (ss a0) 247 13770) (hS : ∀ σ, eSk E σ ↔ SkC σ) : ∀ (n : Nat) (s : St) (x1 : Int32) (x2 : Int32) (x3 : Int32) (x4 : Int32) (x5 : Int32), F_X0_feint_37   n s x1 x2 x3 x4 x5 = some (r, s') → J X E (sn a0) (ss a0) 7 (QR X E a0 (some (vl r)) s') s 37 [(0, vr (some 0)), (1, vi x1), (2, vi x2), (3, vi x3), (4, vi x4), (5, vi x5)] [] := by
  intro n
  induction n with
  | zero => intro s x1 x2 x3 x4 x5 h; exact absurd (show (none : Option (Int64 × St)) = _ from h) (by simp)
  | succ n ih =>
    intro s x1 x2 x3 x4 x5 h
    rw [F_X0_feint_37] at h
    refine r_iload (j := 5) B dX0_feint_37 rfl ?_
    refine r_bipush (v := 25) B dX0_feint_39 (by decide) ?_
    refine r_ic_ge (tgt := 121) B dX0_feint_41 (by decide) (fun cn1 => ?_) (fun cn1 => ?_)
    · have h := ot cn1 h
      refine r_iload_n (j := 2) B dX0_feint_121 rfl rfl ?_
      refine r_iconst (v := 2) B dX0_feint_122 (by decide) ?_
      refine r_ic_ge (tgt := 135) B dX0_feint_123 (by decide) (fun cn2 => ?_) (fun cn2 => ?_)
      · have h := ot cn2 h
        refine r_aload_n (j := 0) B dX0_feint_135 rfl rfl ?_
        refine r_iload (j := 4) B dX0_feint_136 rfl ?_
        refine r_iload_n (j := 2) B dX0_feint_138 rfl rfl ?_
        refine r_iconst (v := 2) B dX0_feint_139 (by decide) ?_
        refine r_isub B dX0_feint_140 ?_
        obtain ⟨r3, s4, hc5, h⟩ := bnd_e h
        refine r_callVv (As := [vi x4, vi (x2 - (2 : Int32))]) (rest := []) B rfl rfl EX.same (c_X0_friendOf B.ge hS hc5) (cw_X0_friendOf rfl rfl) (fun z => RV.of 0 (by rw [((hS _).1 z).1 0 (by decide)]; rfl) rfl rfl qs39) q1350 q1352 rfl dX0_feint_141 ?_
        exact r_lret B dX0_feint_144 h
      · have h := of cn2 h
        refine r_aload_n (j := 0) B dX0_feint_126 rfl rfl ?_
        refine r_iload_n (j := 3) B dX0_feint_127 rfl rfl ?_
        refine r_iload_n (j := 2) B dX0_feint_128 rfl rfl ?_
        obtain ⟨r6, s7, hc8, h⟩ := bnd_e h
        refine r_callVv (As := [vi x3, vi x2]) (rest := []) B rfl rfl EX.same (c_X0_friendOf B.ge hS hc8) (cw_X0_friendOf rfl rfl) (fun z => RV.of 0 (by rw [((hS _).1 z).1 0 (by decide)]; rfl) rfl rfl qs39) q1350 q1352 rfl dX0_feint_129 ?_
        refine r_goto (tgt := 144) B dX0_feint_132 (by decide) ?_
        exact r_lret B dX0_feint_144 h
    · have h := of cn1 h
      refine r_aload_n (j := 0) B dX0_feint_44 rfl rfl ?_
      refine r_aload_n (j := 0) B dX0_feint_45 rfl rfl ?_
      refine g0 (k := 18) B (vr (some 26)) rfl (fun z => by rw [((hS _).1 z).1 0 (by decide)]; rfl) rfl q374 rfl (fun z => by rw [((hS _).1 z).2 _ (List.mem_of_getElem? (i := 12) rfl)]; rfl) dX0_feint_46 ?_
      refine r_iload (j := 5) B dX0_feint_49 rfl ?_
      obtain ⟨hg9, h⟩ := gd_e h
      refine r_aald 6 "RoseThrow$Flight" ⟨by decide, by decide, rfl⟩ B rfl (fun z => ((hS _).1 z).1 26 (by decide)) hg9 dX0_feint_51 ?_
      refine r_iload_n (j := 1) B dX0_feint_52 rfl rfl ?_
      obtain ⟨r10, s11, hc12, h⟩ := bnd_e h
      refine r_callV0 (As := [vr (sr s 26 x5.toNatClampNeg), vi x1]) (rest := []) B rfl rfl EX.same (c_X0_hears B.ge hS hc12) (cw_X0_hears rfl rfl) (fun z => RV.of 0 (by rw [((hS _).1 z).1 0 (by decide)]; rfl) rfl rfl qs40) q1361 q1363 rfl dX0_feint_53 ?_
      refine r_iconst (v := 0) B dX0_feint_56 (by decide) ?_
      refine r_istore (L' := [(0, vr (some 0)), (1, vi x1), (2, vi x2), (3, vi x3), (4, vi x4), (5, vi x5), (6, vi (0 : Int32))]) B dX0_feint_57 (by decide) rfl rfl rfl ?_
      exact w_X0_feint_59 B hS (F_X0_feint_37  n) ih FU s11 x1 x2 x3 x4 x5 (0 : Int32) h
set_option maxHeartbeats 4000000 in
noncomputable def F_X0_feint (s : St) (p0 : Int32) (p1 : Int32) : Option (Int64 × St) := bnd (F_X0_isCatcher s p0) fun r1 s2 => if r1 = 0 then (some ((-1 : Int64), s2)) else (bnd (F_X0_in s2 p1 (0 : Int32) (5 : Int32)) fun r5 s6 => if r5 = 0 then (some ((-1 : Int64), s6)) else (bnd (F_X0_looksAtAll s6) fun _ s10 => bnd (F_X0_none s10) fun _ s13 => F_X0_feint_37 FU s13 p0 p1 (0 : Int32) (0 : Int32) (0 : Int32)))
set_option maxHeartbeats 4000000 in
theorem c_X0_feint {l : Launch} {E : EV} (hE : GE E) (hS : ∀ σ, eSk E σ ↔ SkC σ) {s s' : St} {r : Int64} {p0 : Int32} {p1 : Int32} (h : F_X0_feint  s p0 p1 = some (r, s')) : CT l E yX0_feint cX0_feint 7 (some .long) 247 13770 [vr (some 0), vi p0, vi p1] s (some (vl r)) s' := by
  refine CT.start hE (by decide) rfl [(0, vr (some 0)), (1, vi p0), (2, vi p1)] rfl (fun X hX B => ?_)
  skip
  have B : FX X E cX0_feint 7 (some .long) "RoseThrow" "feint" (sn s) (ss s) 247 13770 := B
  unfold F_X0_feint at h
  refine r_aload_n (j := 0) B dX0_feint_0 rfl rfl ?_
  refine r_iload_n (j := 1) B dX0_feint_1 rfl rfl ?_
  obtain ⟨r1, s2, hc3, h⟩ := bnd_e h
  refine r_callVv (As := [vi p0]) (rest := []) B rfl rfl EX.same (c_X0_isCatcher B.ge hS hc3) (cw_X0_isCatcher rfl rfl) (fun z => RV.of 0 (by rw [((hS _).1 z).1 0 (by decide)]; rfl) rfl rfl qs12) q654 q656 rfl dX0_feint_2 ?_
  refine r_if_eq (tgt := 17) B dX0_feint_5 (by decide) (fun cn4 => ?_) (fun cn4 => ?_)
  · have h := ot cn4 h
    refine r_ldc2 B dX0_feint_17 q575 ?_
    exact r_lret B dX0_feint_20 h
  · have h := of cn4 h
    refine r_iload_n (j := 2) B dX0_feint_8 rfl rfl ?_
    refine r_iconst (v := 0) B dX0_feint_9 (by decide) ?_
    refine r_iconst (v := 5) B dX0_feint_10 (by decide) ?_
    obtain ⟨r5, s6, hc7, h⟩ := bnd_e h
    refine r_callSv (As := [vi p1, vi (0 : Int32), vi (5 : Int32)]) (rest := []) B rfl EX.same (c_X0_in B.ge hS hc7) (cw_X0_in rfl rfl) q445 q446 rfl dX0_feint_11 ?_
    refine r_if_ne (tgt := 21) B dX0_feint_14 (by decide) (fun cn8 => ?_) (fun cn8 => ?_)
    · have h := of cn8 h
      refine r_aload_n (j := 0) B dX0_feint_21 rfl rfl ?_
      obtain ⟨r9, s10, hc11, h⟩ := bnd_e h
      refine r_callV0 (As := []) (rest := []) B rfl rfl EX.same (c_X0_looksAtAll B.ge hS hc11) (cw_X0_looksAtAll rfl rfl) (fun z => RV.of 0 (by rw [((hS _).1 z).1 0 (by decide)]; rfl) rfl rfl qs36) q1338 q1340 rfl dX0_feint_22 ?_
      refine r_aload_n (j := 0) B dX0_feint_25 rfl rfl ?_
      obtain ⟨r12, s13, hc14, h⟩ := bnd_e h
      refine r_callV0 (As := []) (rest := []) B rfl rfl EX.same (c_X0_none B.ge hS hc14) (cw_X0_none rfl rfl) (fun z => RV.of 0 (by rw [((hS _).1 z).1 0 (by decide)]; rfl) rfl rfl qs37) q1342 q1344 rfl dX0_feint_26 ?_
      refine r_iconst (v := 0) B dX0_feint_29 (by decide) ?_
      refine r_istore_n (L' := [(0, vr (some 0)), (1, vi p0), (2, vi p1), (3, vi (0 : Int32))]) B dX0_feint_30 rfl (by decide) rfl rfl rfl ?_
      refine r_iconst (v := 0) B dX0_feint_31 (by decide) ?_
      refine r_istore (L' := [(0, vr (some 0)), (1, vi p0), (2, vi p1), (3, vi (0 : Int32)), (4, vi (0 : Int32))]) B dX0_feint_32 (by decide) rfl rfl rfl ?_
      refine r_iconst (v := 0) B dX0_feint_34 (by decide) ?_
      refine r_istore (L' := [(0, vr (some 0)), (1, vi p0), (2, vi p1), (3, vi (0 : Int32)), (4, vi (0 : Int32)), (5, vi (0 : Int32))]) B dX0_feint_35 (by decide) rfl rfl rfl ?_
      exact w_X0_feint_37 B hS FU s13 p0 p1 (0 : Int32) (0 : Int32) (0 : Int32) h
    · have h := ot cn8 h
      refine r_ldc2 B dX0_feint_17 q575 ?_
      exact r_lret B dX0_feint_20 h
set_option maxHeartbeats 4000000 in
theorem cw_X0_feint {X : CX} {fr lo : Nat} (h1 : Nat.ble (247 + 1) fr = true) (h2 : Nat.ble (26 + 13770) lo = true) : CW X fr lo yX0_feint cX0_feint 7 (some .long) 247 13770 2 := ⟨q1372, q126, ⟨by decide +kernel, by decide +kernel, by decide +kernel⟩, Nat.le_of_ble_eq_true h1, Nat.le_of_ble_eq_true h2⟩

set_option maxHeartbeats 4000000 in
noncomputable def F_X0_near_2_58 (k4 : St → Int32 → Int32 → Int32 → Option (Int32 × St)) (s : St) (x1 : Int32) (x3 : Int32) (z0 : Int32) : Option (Int32 × St) := k4 s x1 (z0 + (0 : Int32)) (x3 + (1))
set_option maxHeartbeats 4000000 in
theorem w_X0_near_2_58 {X : CX} {E : EV} {a0 s' : St} {r : Int32} (B : FX X E cX0_near_2 4 (some .int) "RoseThrow" "near" (sn a0) (ss a0) 2 81) (hS : ∀ σ, eSk E σ ↔ SkC σ) (k4 : St → Int32 → Int32 → Int32 → Option (Int32 × St)) (hk4 : ∀ (s : St) (x1 : Int32) (x2 : Int32) (x3 : Int32), k4 s x1 x2 x3 = some (r, s') → J X E (sn a0) (ss a0) 4 (QR X E a0 (some (vi r)) s') s 4 [(0, vr (some 0)), (1, vi x1), (2, vi x2), (3, vi x3)] []) (s : St) (x1 : Int32) (x3 : Int32) (z0 : Int32) (h : F_X0_near_2_58  k4 s x1 x3 z0 = some (r, s')) : J X E (sn a0) (ss a0) 4 (QR X E a0 (some (vi r)) s') s 58 [(0, vr (some 0)), (1, vi x1), (3, vi x3)] [vi z0] := by
  unfold F_X0_near_2_58 at h
  refine r_iconst (v := 0) B dX0_near_2_58 (by decide) ?_
  refine r_iadd B dX0_near_2_59 ?_
  refine r_istore_n (L' := [(0, vr (some 0)), (1, vi x1), (2, vi (z0 + (0 : Int32))), (3, vi x3)]) B dX0_near_2_60 rfl (by decide) rfl rfl rfl ?_
  refine r_iinc (j := 3) (v := (x3 + (1))) (L' := [(0, vr (some 0)), (1, vi x1), (2, vi (z0 + (0 : Int32))), (3, vi (x3 + (1)))]) B dX0_near_2_61 rfl rfl (by decide) rfl rfl rfl ?_
  refine r_goto (tgt := 4) B dX0_near_2_64 (by decide) ?_
  exact hk4 s x1 (z0 + (0 : Int32)) (x3 + (1)) h
set_option maxHeartbeats 4000000 in
noncomputable def F_X0_near_2_4 : Nat → St → Int32 → Int32 → Int32 → Option (Int32 × St)
  | 0 => fun _ _ _ _ => none
  | n + 1 => fun s x1 x2 x3 => if (si s 23 2) ≤ x3 then (some (x2, s)) else (gd (inb x3 9) <| if (si s 24 x3.toNatClampNeg) = (-1 : Int32) then (F_X0_near_2_58 (F_X0_near_2_4  n) s x1 x3 x2) else (gd (inb x3 9) <| bnd (F_X0_far s (si s 24 x3.toNatClampNeg) x1) fun r5 s6 => if (1 : Int32) < r5 then (F_X0_near_2_58 (F_X0_near_2_4  n) s6 x1 x3 x2) else (gd (inb x3 9) <| nam (x2 + (si s6 25 x3.toNatClampNeg)) fun y10 => F_X0_near_2_4  n s6 x1 y10 (x3 + (1)))))
set_option maxHeartbeats 4000000 in
theorem w_X0_near_2_4 {X : CX} {E : EV} {a0 s' : St} {r : Int32} (B : FX X E cX0_near_2 4 (some .int) "RoseThrow" "near" (sn a0) (ss a0) 2 81) (hS : ∀ σ, eSk E σ ↔ SkC σ) : ∀ (n : Nat) (s : St) (x1 : Int32) (x2 : Int32) (x3 : Int32), F_X0_near_2_4   n s x1 x2 x3 = some (r, s') → J X E (sn a0) (ss a0) 4 (QR X E a0 (some (vi r)) s') s 4 [(0, vr (some 0)), (1, vi x1), (2, vi x2), (3, vi x3)] [] := by
  intro n
  induction n with
  | zero => intro s x1 x2 x3 h; exact absurd (show (none : Option (Int32 × St)) = _ from h) (by simp)
  | succ n ih =>
    intro s x1 x2 x3 h
    rw [F_X0_near_2_4] at h
    refine r_iload_n (j := 3) B dX0_near_2_4 rfl rfl ?_
    refine r_aload_n (j := 0) B dX0_near_2_5 rfl rfl ?_
    refine g0 (k := 17) B (vr (some 23)) rfl (fun z => by rw [((hS _).1 z).1 0 (by decide)]; rfl) rfl q373 rfl (fun z => by rw [((hS _).1 z).2 _ (List.mem_of_getElem? (i := 11) rfl)]; rfl) dX0_near_2_6 ?_
    refine g4N (k := 2) B (vi (si s 23 2)) rfl (fun z => by rw [((hS _).1 z).1 23 (by decide)]; rfl) rfl (lw_n q340 rfl) rfl (fun _ => rfl) dX0_near_2_9 ?_
    refine r_ic_ge (tgt := 67) B dX0_near_2_12 (by decide) (fun cn1 => ?_) (fun cn1 => ?_)
    · have h := ot cn1 h
      refine r_iload_n (j := 2) B dX0_near_2_67 rfl rfl ?_
      exact r_iret B dX0_near_2_68 h
    · have h := of cn1 h
      refine r_iload_n (j := 2) B dX0_near_2_15 rfl rfl ?_
      refine r_aload_n (j := 0) B dX0_near_2_16 rfl rfl ?_
      refine g0 (k := 17) B (vr (some 23)) rfl (fun z => by rw [((hS _).1 z).1 0 (by decide)]; rfl) rfl q373 rfl (fun z => by rw [((hS _).1 z).2 _ (List.mem_of_getElem? (i := 11) rfl)]; rfl) dX0_near_2_17 ?_
      refine g4N (k := 0) B (vr (some 24)) rfl (fun z => by rw [((hS _).1 z).1 23 (by decide)]; rfl) rfl (lw_n q336 rfl) rfl (fun z => by rw [((hS _).1 z).2 _ (List.mem_of_getElem? (i := 27) rfl)]; rfl) dX0_near_2_20 ?_
      refine r_iload_n (j := 3) B dX0_near_2_23 rfl rfl ?_
      obtain ⟨hg2, h⟩ := gd_e h
      refine r_iald B rfl (fun z => ((hS _).1 z).1 24 (by decide)) hg2 dX0_near_2_24 ?_
      refine r_iconst (v := -1) B dX0_near_2_25 (by decide) ?_
      refine r_ic_eq (tgt := 58) B dX0_near_2_26 (by decide) (fun cn3 => ?_) (fun cn3 => ?_)
      · have h := ot cn3 h
        refine r_pick [0, 1, 3] (L' := [(0, vr (some 0)), (1, vi x1), (3, vi x3)]) rfl ?_
        exact w_X0_near_2_58 B hS (F_X0_near_2_4  n) ih s x1 x3 x2 h
      · have h := of cn3 h
        refine r_aload_n (j := 0) B dX0_near_2_29 rfl rfl ?_
        refine g0 (k := 17) B (vr (some 23)) rfl (fun z => by rw [((hS _).1 z).1 0 (by decide)]; rfl) rfl q373 rfl (fun z => by rw [((hS _).1 z).2 _ (List.mem_of_getElem? (i := 11) rfl)]; rfl) dX0_near_2_30 ?_
        refine g4N (k := 0) B (vr (some 24)) rfl (fun z => by rw [((hS _).1 z).1 23 (by decide)]; rfl) rfl (lw_n q336 rfl) rfl (fun z => by rw [((hS _).1 z).2 _ (List.mem_of_getElem? (i := 27) rfl)]; rfl) dX0_near_2_33 ?_
        refine r_iload_n (j := 3) B dX0_near_2_36 rfl rfl ?_
        obtain ⟨hg4, h⟩ := gd_e h
        refine r_iald B rfl (fun z => ((hS _).1 z).1 24 (by decide)) hg4 dX0_near_2_37 ?_
        refine r_iload_n (j := 1) B dX0_near_2_38 rfl rfl ?_
        obtain ⟨r5, s6, hc7, h⟩ := bnd_e h
        refine r_callSv (As := [vi (si s 24 x3.toNatClampNeg), vi x1]) (rest := [vi x2]) B rfl EX.same (c_X0_far B.ge hS hc7) (cw_X0_far rfl rfl) q1303 q1304 rfl dX0_near_2_39 ?_
        refine r_iconst (v := 1) B dX0_near_2_42 (by decide) ?_
        refine r_ic_gt (tgt := 58) B dX0_near_2_43 (by decide) (fun cn8 => ?_) (fun cn8 => ?_)
        · have h := ot cn8 h
          refine r_pick [0, 1, 3] (L' := [(0, vr (some 0)), (1, vi x1), (3, vi x3)]) rfl ?_
          exact w_X0_near_2_58 B hS (F_X0_near_2_4  n) ih s6 x1 x3 x2 h
        · have h := of cn8 h
          refine r_aload_n (j := 0) B dX0_near_2_46 rfl rfl ?_
          refine g0 (k := 17) B (vr (some 23)) rfl (fun z => by rw [((hS _).1 z).1 0 (by decide)]; rfl) rfl q373 rfl (fun z => by rw [((hS _).1 z).2 _ (List.mem_of_getElem? (i := 11) rfl)]; rfl) dX0_near_2_47 ?_
          refine g4N (k := 1) B (vr (some 25)) rfl (fun z => by rw [((hS _).1 z).1 23 (by decide)]; rfl) rfl (lw_n q338 rfl) rfl (fun z => by rw [((hS _).1 z).2 _ (List.mem_of_getElem? (i := 28) rfl)]; rfl) dX0_near_2_50 ?_
          refine r_iload_n (j := 3) B dX0_near_2_53 rfl rfl ?_
          obtain ⟨hg9, h⟩ := gd_e h
          refine r_iald B rfl (fun z => ((hS _).1 z).1 25 (by decide)) hg9 dX0_near_2_54 ?_
          refine r_goto (tgt := 59) B dX0_near_2_55 (by decide) ?_
          refine r_iadd B dX0_near_2_59 ?_
          obtain ⟨y10, e11, h⟩ := nam_e h
          refine r_topi e11 ?_
          refine r_istore_n (L' := [(0, vr (some 0)), (1, vi x1), (2, vi y10), (3, vi x3)]) B dX0_near_2_60 rfl (by decide) rfl rfl rfl ?_
          refine r_iinc (j := 3) (v := (x3 + (1))) (L' := [(0, vr (some 0)), (1, vi x1), (2, vi y10), (3, vi (x3 + (1)))]) B dX0_near_2_61 rfl rfl (by decide) rfl rfl rfl ?_
          refine r_goto (tgt := 4) B dX0_near_2_64 (by decide) ?_
          exact ih s6 x1 y10 (x3 + (1)) h
set_option maxHeartbeats 4000000 in
noncomputable def F_X0_near_2 (s : St) (p0 : Int32) : Option (Int32 × St) := F_X0_near_2_4 FU s p0 (0 : Int32) (0 : Int32)
set_option maxHeartbeats 4000000 in
theorem c_X0_near_2 {l : Launch} {E : EV} (hE : GE E) (hS : ∀ σ, eSk E σ ↔ SkC σ) {s s' : St} {r : Int32} {p0 : Int32} (h : F_X0_near_2  s p0 = some (r, s')) : CT l E yX0_near_2 cX0_near_2 4 (some .int) 2 81 [vr (some 0), vi p0] s (some (vi r)) s' := by
  refine CT.start hE (by decide) rfl [(0, vr (some 0)), (1, vi p0)] rfl (fun X hX B => ?_)
  skip
  have B : FX X E cX0_near_2 4 (some .int) "RoseThrow" "near" (sn s) (ss s) 2 81 := B
  unfold F_X0_near_2 at h
  refine r_iconst (v := 0) B dX0_near_2_0 (by decide) ?_
  refine r_istore_n (L' := [(0, vr (some 0)), (1, vi p0), (2, vi (0 : Int32))]) B dX0_near_2_1 rfl (by decide) rfl rfl rfl ?_
  refine r_iconst (v := 0) B dX0_near_2_2 (by decide) ?_
  refine r_istore_n (L' := [(0, vr (some 0)), (1, vi p0), (2, vi (0 : Int32)), (3, vi (0 : Int32))]) B dX0_near_2_3 rfl (by decide) rfl rfl rfl ?_
  exact w_X0_near_2_4 B hS FU s p0 (0 : Int32) (0 : Int32) h
set_option maxHeartbeats 4000000 in
theorem cw_X0_near_2 {X : CX} {fr lo : Nat} (h1 : Nat.ble (2 + 1) fr = true) (h2 : Nat.ble (23 + 81) lo = true) : CW X fr lo yX0_near_2 cX0_near_2 4 (some .int) 2 81 1 := ⟨q1380, q126, ⟨by decide +kernel, by decide +kernel, by decide +kernel⟩, Nat.le_of_ble_eq_true h1, Nat.le_of_ble_eq_true h2⟩

set_option maxHeartbeats 4000000 in
noncomputable def F_X0_safest_112 (s : St) (x3 : Int32) : Option (Int32 × St) := some (x3, s)
set_option maxHeartbeats 4000000 in
theorem w_X0_safest_112 {X : CX} {E : EV} {a0 s' : St} {r : Int32} (B : FX X E cX0_safest 6 (some .int) "RoseThrow" "safest" (sn a0) (ss a0) 246 13745) (hS : ∀ σ, eSk E σ ↔ SkC σ) (s : St) (x3 : Int32) (h : F_X0_safest_112   s x3 = some (r, s')) : J X E (sn a0) (ss a0) 6 (QR X E a0 (some (vi r)) s') s 112 [(3, vi x3)] [] := by
  unfold F_X0_safest_112 at h
  refine r_iload_n (j := 0) B dX0_safest_112 rfl rfl ?_
  refine r_goto (tgt := 144) B dX0_safest_113 (by decide) ?_
  exact r_iret B dX0_safest_144 h
set_option maxHeartbeats 4000000 in
noncomputable def F_X0_safest_140 (s : St) (z0 : Int32) (z1 : Int64) (z2 : Int64) : Option (Int32 × St) := bnd (F_X0_tells s z2 z1 z0) fun r1 s2 => some (((r1).toInt32), s2)
set_option maxHeartbeats 4000000 in
theorem w_X0_safest_140 {X : CX} {E : EV} {a0 s' : St} {r : Int32} (B : FX X E cX0_safest 6 (some .int) "RoseThrow" "safest" (sn a0) (ss a0) 246 13745) (hS : ∀ σ, eSk E σ ↔ SkC σ) (s : St) (z0 : Int32) (z1 : Int64) (z2 : Int64) (h : F_X0_safest_140   s z0 z1 z2 = some (r, s')) : J X E (sn a0) (ss a0) 6 (QR X E a0 (some (vi r)) s') s 140 [] [vi z0, vl z1, vl z2] := by
  unfold F_X0_safest_140 at h
  obtain ⟨r1, s2, hc3, h⟩ := bnd_e h
  refine r_callSv (As := [vl z2, vl z1, vi z0]) (rest := []) B rfl EX.same (c_X0_tells B.ge hS hc3) (cw_X0_tells rfl rfl) q1281 q1282 rfl dX0_safest_140 ?_
  refine r_l2i B dX0_safest_143 ?_
  exact r_iret B dX0_safest_144 h
set_option maxHeartbeats 4000000 in
noncomputable def F_X0_safest_62 (k28 : St → Int32 → Int32 → Int32 → Int32 → Option (Int32 × St)) (s : St) (x1 : Int32) (x2 : Int32) (x3 : Int32) (x4 : Int32) : Option (Int32 × St) := bnd (F_X0_isBarred_2 s x1 x4) fun r1 s2 => if r1 = 0 then (if x3 = (-1 : Int32) then (k28 s2 x1 x2 x4 (x4 + (1))) else (bnd (F_X0_near_2 s2 x4) fun r6 s7 => bnd (F_X0_near_2 s7 x3) fun r9 s10 => if r9 ≤ r6 then (k28 s10 x1 x2 x3 (x4 + (1))) else (k28 s10 x1 x2 x4 (x4 + (1))))) else (k28 s2 x1 x2 x3 (x4 + (1)))
set_option maxHeartbeats 4000000 in
theorem w_X0_safest_62 {X : CX} {E : EV} {a0 s' : St} {r : Int32} (B : FX X E cX0_safest 6 (some .int) "RoseThrow" "safest" (sn a0) (ss a0) 246 13745) (hS : ∀ σ, eSk E σ ↔ SkC σ) (k28 : St → Int32 → Int32 → Int32 → Int32 → Option (Int32 × St)) (hk28 : ∀ (s : St) (x1 : Int32) (x2 : Int32) (x3 : Int32) (x4 : Int32), k28 s x1 x2 x3 x4 = some (r, s') → J X E (sn a0) (ss a0) 6 (QR X E a0 (some (vi r)) s') s 28 [(0, vr (some 0)), (1, vi x1), (2, vi x2), (3, vi x3), (4, vi x4)] []) (s : St) (x1 : Int32) (x2 : Int32) (x3 : Int32) (x4 : Int32) (h : F_X0_safest_62  k28 s x1 x2 x3 x4 = some (r, s')) : J X E (sn a0) (ss a0) 6 (QR X E a0 (some (vi r)) s') s 62 [(0, vr (some 0)), (1, vi x1), (2, vi x2), (3, vi x3), (4, vi x4)] [] := by
  unfold F_X0_safest_62 at h
  refine r_aload_n (j := 0) B dX0_safest_62 rfl rfl ?_
  refine r_iload_n (j := 1) B dX0_safest_63 rfl rfl ?_
  refine r_iload (j := 4) B dX0_safest_64 rfl ?_
  obtain ⟨r1, s2, hc3, h⟩ := bnd_e h
  refine r_callVv (As := [vi x1, vi x4]) (rest := []) B rfl rfl EX.same (c_X0_isBarred_2 B.ge hS hc3) (cw_X0_isBarred_2 rfl rfl) (fun z => RV.of 0 (by rw [((hS _).1 z).1 0 (by decide)]; rfl) rfl rfl qs19) q1201 q1203 rfl dX0_safest_66 ?_
  refine r_if_eq (tgt := 75) B dX0_safest_69 (by decide) (fun cn4 => ?_) (fun cn4 => ?_)
  · have h := ot cn4 h
    refine r_iload_n (j := 3) B dX0_safest_75 rfl rfl ?_
    refine r_iconst (v := -1) B dX0_safest_76 (by decide) ?_
    refine r_ic_eq (tgt := 94) B dX0_safest_77 (by decide) (fun cn5 => ?_) (fun cn5 => ?_)
    · have h := ot cn5 h
      refine r_iload (j := 4) B dX0_safest_94 rfl ?_
      refine r_istore_n (L' := [(0, vr (some 0)), (1, vi x1), (2, vi x2), (3, vi x4), (4, vi x4)]) B dX0_safest_96 rfl (by decide) rfl rfl rfl ?_
      refine r_iinc (j := 4) (v := (x4 + (1))) (L' := [(0, vr (some 0)), (1, vi x1), (2, vi x2), (3, vi x4), (4, vi (x4 + (1)))]) B dX0_safest_97 rfl rfl (by decide) rfl rfl rfl ?_
      refine r_goto (tgt := 28) B dX0_safest_100 (by decide) ?_
      exact hk28 s2 x1 x2 x4 (x4 + (1)) h
    · have h := of cn5 h
      refine r_aload_n (j := 0) B dX0_safest_80 rfl rfl ?_
      refine r_iload (j := 4) B dX0_safest_81 rfl ?_
      obtain ⟨r6, s7, hc8, h⟩ := bnd_e h
      refine r_callVv (As := [vi x4]) (rest := []) B rfl rfl EX.same (c_X0_near_2 B.ge hS hc8) (cw_X0_near_2 rfl rfl) (fun z => RV.of 0 (by rw [((hS _).1 z).1 0 (by decide)]; rfl) rfl rfl qs41) q1377 q1379 rfl dX0_safest_83 ?_
      refine r_aload_n (j := 0) B dX0_safest_86 rfl rfl ?_
      refine r_iload_n (j := 3) B dX0_safest_87 rfl rfl ?_
      obtain ⟨r9, s10, hc11, h⟩ := bnd_e h
      refine r_callVv (As := [vi x3]) (rest := [vi r6]) B rfl rfl EX.same (c_X0_near_2 B.ge hS hc11) (cw_X0_near_2 rfl rfl) (fun z => RV.of 0 (by rw [((hS _).1 z).1 0 (by decide)]; rfl) rfl rfl qs41) q1377 q1379 rfl dX0_safest_88 ?_
      refine r_ic_ge (tgt := 97) B dX0_safest_91 (by decide) (fun cn12 => ?_) (fun cn12 => ?_)
      · have h := ot cn12 h
        refine r_iinc (j := 4) (v := (x4 + (1))) (L' := [(0, vr (some 0)), (1, vi x1), (2, vi x2), (3, vi x3), (4, vi (x4 + (1)))]) B dX0_safest_97 rfl rfl (by decide) rfl rfl rfl ?_
        refine r_goto (tgt := 28) B dX0_safest_100 (by decide) ?_
        exact hk28 s10 x1 x2 x3 (x4 + (1)) h
      · have h := of cn12 h
        refine r_iload (j := 4) B dX0_safest_94 rfl ?_
        refine r_istore_n (L' := [(0, vr (some 0)), (1, vi x1), (2, vi x2), (3, vi x4), (4, vi x4)]) B dX0_safest_96 rfl (by decide) rfl rfl rfl ?_
        refine r_iinc (j := 4) (v := (x4 + (1))) (L' := [(0, vr (some 0)), (1, vi x1), (2, vi x2), (3, vi x4), (4, vi (x4 + (1)))]) B dX0_safest_97 rfl rfl (by decide) rfl rfl rfl ?_
        refine r_goto (tgt := 28) B dX0_safest_100 (by decide) ?_
        exact hk28 s10 x1 x2 x4 (x4 + (1)) h
  · have h := of cn4 h
    refine r_goto (tgt := 97) B dX0_safest_72 (by decide) ?_
    refine r_iinc (j := 4) (v := (x4 + (1))) (L' := [(0, vr (some 0)), (1, vi x1), (2, vi x2), (3, vi x3), (4, vi (x4 + (1)))]) B dX0_safest_97 rfl rfl (by decide) rfl rfl rfl ?_
    refine r_goto (tgt := 28) B dX0_safest_100 (by decide) ?_
    exact hk28 s2 x1 x2 x3 (x4 + (1)) h
set_option maxHeartbeats 4000000 in
noncomputable def F_X0_safest_28 : Nat → St → Int32 → Int32 → Int32 → Int32 → Option (Int32 × St)
  | 0 => fun _ _ _ _ _ => none
  | n + 1 => fun s x1 x2 x3 x4 => if (36 : Int32) ≤ x4 then (if x3 = (-1 : Int32) then (F_X0_safest_112 s x3) else (if x2 = 0 then (F_X0_safest_112 s x3) else (bnd (F_X0_near_2 s x3) fun r4 s5 => if x2 = (1 : Int32) then (F_X0_safest_140 s5 (1 : Int32) (((si s5 23 3)).toInt64) ((r4).toInt64)) else (F_X0_safest_140 s5 (0 : Int32) (((si s5 23 3)).toInt64) ((r4).toInt64))))) else (bnd (F_X0_whoIn s (some 3) x4) fun r8 s9 => if r8 = (-1 : Int32) then (F_X0_safest_62 (F_X0_safest_28  n) s9 x1 x2 x3 x4) else (if r8 = x1 then (F_X0_safest_62 (F_X0_safest_28  n) s9 x1 x2 x3 x4) else (F_X0_safest_28  n s9 x1 x2 x3 (x4 + (1)))))
set_option maxHeartbeats 4000000 in
theorem w_X0_safest_28 {X : CX} {E : EV} {a0 s' : St} {r : Int32} (B : FX X E cX0_safest 6 (some .int) "RoseThrow" "safest" (sn a0) (ss a0) 246 13745) (hS : ∀ σ, eSk E σ ↔ SkC σ) : ∀ (n : Nat) (s : St) (x1 : Int32) (x2 : Int32) (x3 : Int32) (x4 : Int32), F_X0_safest_28   n s x1 x2 x3 x4 = some (r, s') → J X E (sn a0) (ss a0) 6 (QR X E a0 (some (vi r)) s') s 28 [(0, vr (some 0)), (1, vi x1), (2, vi x2), (3, vi x3), (4, vi x4)] [] := by
  intro n
  induction n with
  | zero => intro s x1 x2 x3 x4 h; exact absurd (show (none : Option (Int32 × St)) = _ from h) (by simp)
  | succ n ih =>
    intro s x1 x2 x3 x4 h
    rw [F_X0_safest_28] at h
    refine r_iload (j := 4) B dX0_safest_28 rfl ?_
    refine r_bipush (v := 36) B dX0_safest_30 (by decide) ?_
    refine r_ic_ge (tgt := 103) B dX0_safest_32 (by decide) (fun cn1 => ?_) (fun cn1 => ?_)
    · have h := ot cn1 h
      refine r_iload_n (j := 3) B dX0_safest_103 rfl rfl ?_
      refine r_iconst (v := -1) B dX0_safest_104 (by decide) ?_
      refine r_ic_eq (tgt := 112) B dX0_safest_105 (by decide) (fun cn2 => ?_) (fun cn2 => ?_)
      · have h := ot cn2 h
        refine r_pick [3] (L' := [(3, vi x3)]) rfl ?_
        exact w_X0_safest_112 B hS s x3 h
      · have h := of cn2 h
        refine r_iload_n (j := 2) B dX0_safest_108 rfl rfl ?_
        refine r_if_ne (tgt := 116) B dX0_safest_109 (by decide) (fun cn3 => ?_) (fun cn3 => ?_)
        · have h := of cn3 h
          refine r_aload_n (j := 0) B dX0_safest_116 rfl rfl ?_
          refine r_iload_n (j := 3) B dX0_safest_117 rfl rfl ?_
          obtain ⟨r4, s5, hc6, h⟩ := bnd_e h
          refine r_callVv (As := [vi x3]) (rest := []) B rfl rfl EX.same (c_X0_near_2 B.ge hS hc6) (cw_X0_near_2 rfl rfl) (fun z => RV.of 0 (by rw [((hS _).1 z).1 0 (by decide)]; rfl) rfl rfl qs41) q1377 q1379 rfl dX0_safest_118 ?_
          refine r_i2l B dX0_safest_121 ?_
          refine r_aload_n (j := 0) B dX0_safest_122 rfl rfl ?_
          refine g0 (k := 17) B (vr (some 23)) rfl (fun z => by rw [((hS _).1 z).1 0 (by decide)]; rfl) rfl q373 rfl (fun z => by rw [((hS _).1 z).2 _ (List.mem_of_getElem? (i := 11) rfl)]; rfl) dX0_safest_123 ?_
          refine g4N (k := 3) B (vi (si s5 23 3)) rfl (fun z => by rw [((hS _).1 z).1 23 (by decide)]; rfl) rfl (lw_n q342 rfl) rfl (fun _ => rfl) dX0_safest_126 ?_
          refine r_i2l B dX0_safest_129 ?_
          refine r_iload_n (j := 2) B dX0_safest_130 rfl rfl ?_
          refine r_iconst (v := 1) B dX0_safest_131 (by decide) ?_
          refine r_ic_ne (tgt := 139) B dX0_safest_132 (by decide) (fun cn7 => ?_) (fun cn7 => ?_)
          · have h := of cn7 h
            refine r_iconst (v := 0) B dX0_safest_139 (by decide) ?_
            refine r_pick [] (L' := []) rfl ?_
            exact w_X0_safest_140 B hS s5 (0 : Int32) (((si s5 23 3)).toInt64) ((r4).toInt64) h
          · have h := ot cn7 h
            refine r_iconst (v := 1) B dX0_safest_135 (by decide) ?_
            refine r_goto (tgt := 140) B dX0_safest_136 (by decide) ?_
            refine r_pick [] (L' := []) rfl ?_
            exact w_X0_safest_140 B hS s5 (1 : Int32) (((si s5 23 3)).toInt64) ((r4).toInt64) h
        · have h := ot cn3 h
          refine r_pick [3] (L' := [(3, vi x3)]) rfl ?_
          exact w_X0_safest_112 B hS s x3 h
    · have h := of cn1 h
      refine r_aload_n (j := 0) B dX0_safest_35 rfl rfl ?_
      refine r_aload_n (j := 0) B dX0_safest_36 rfl rfl ?_
      refine g0 (k := 2) B (vr (some 2)) rfl (fun z => by rw [((hS _).1 z).1 0 (by decide)]; rfl) rfl q358 rfl (fun z => by rw [((hS _).1 z).2 _ (List.mem_of_getElem? (i := 1) rfl)]; rfl) dX0_safest_37 ?_
      refine g1N (k := 0) B (vr (some 3)) rfl (fun z => by rw [((hS _).1 z).1 2 (by decide)]; rfl) rfl (lw_n q206 rfl) rfl (fun z => by rw [((hS _).1 z).2 _ (List.mem_of_getElem? (i := 17) rfl)]; rfl) dX0_safest_40 ?_
      refine r_iload (j := 4) B dX0_safest_43 rfl ?_
      obtain ⟨r8, s9, hc10, h⟩ := bnd_e h
      refine r_callVv (As := [vr (some 3), vi x4]) (rest := []) B rfl rfl EX.same (c_X0_whoIn B.ge hS hc10) (cw_X0_whoIn rfl rfl) (fun z => RV.of 0 (by rw [((hS _).1 z).1 0 (by decide)]; rfl) rfl rfl qs6) q559 q561 rfl dX0_safest_45 ?_
      refine r_istore (L' := [(0, vr (some 0)), (1, vi x1), (2, vi x2), (3, vi x3), (4, vi x4), (5, vi r8)]) B dX0_safest_48 (by decide) rfl rfl rfl ?_
      refine r_iload (j := 5) B dX0_safest_50 rfl ?_
      refine r_iconst (v := -1) B dX0_safest_52 (by decide) ?_
      refine r_ic_eq (tgt := 62) B dX0_safest_53 (by decide) (fun cn11 => ?_) (fun cn11 => ?_)
      · have h := ot cn11 h
        refine r_pick [0, 1, 2, 3, 4] (L' := [(0, vr (some 0)), (1, vi x1), (2, vi x2), (3, vi x3), (4, vi x4)]) rfl ?_
        exact w_X0_safest_62 B hS (F_X0_safest_28  n) ih s9 x1 x2 x3 x4 h
      · have h := of cn11 h
        refine r_iload (j := 5) B dX0_safest_56 rfl ?_
        refine r_iload_n (j := 1) B dX0_safest_58 rfl rfl ?_
        refine r_ic_ne (tgt := 97) B dX0_safest_59 (by decide) (fun cn12 => ?_) (fun cn12 => ?_)
        · have h := of cn12 h
          refine r_iinc (j := 4) (v := (x4 + (1))) (L' := [(0, vr (some 0)), (1, vi x1), (2, vi x2), (3, vi x3), (4, vi (x4 + (1))), (5, vi r8)]) B dX0_safest_97 rfl rfl (by decide) rfl rfl rfl ?_
          refine r_goto (tgt := 28) B dX0_safest_100 (by decide) ?_
          refine r_pick [0, 1, 2, 3, 4] (L' := [(0, vr (some 0)), (1, vi x1), (2, vi x2), (3, vi x3), (4, vi (x4 + (1)))]) rfl ?_
          exact ih s9 x1 x2 x3 (x4 + (1)) h
        · have h := ot cn12 h
          refine r_pick [0, 1, 2, 3, 4] (L' := [(0, vr (some 0)), (1, vi x1), (2, vi x2), (3, vi x3), (4, vi x4)]) rfl ?_
          exact w_X0_safest_62 B hS (F_X0_safest_28  n) ih s9 x1 x2 x3 x4 h
set_option maxHeartbeats 4000000 in
noncomputable def F_X0_safest (s : St) (p0 : Int32) (p1 : Int32) : Option (Int32 × St) := bnd (F_X0_isCatcher s p0) fun r1 s2 => if r1 = 0 then (some ((-1 : Int32), s2)) else (bnd (F_X0_in s2 p1 (0 : Int32) (2 : Int32)) fun r5 s6 => if r5 = 0 then (some ((-1 : Int32), s6)) else (bnd (F_X0_looks s6) fun _ s10 => F_X0_safest_28 FU s10 p0 p1 (-1 : Int32) (0 : Int32)))
set_option maxHeartbeats 4000000 in
theorem c_X0_safest {l : Launch} {E : EV} (hE : GE E) (hS : ∀ σ, eSk E σ ↔ SkC σ) {s s' : St} {r : Int32} {p0 : Int32} {p1 : Int32} (h : F_X0_safest  s p0 p1 = some (r, s')) : CT l E yX0_safest cX0_safest 6 (some .int) 246 13745 [vr (some 0), vi p0, vi p1] s (some (vi r)) s' := by
  refine CT.start hE (by decide) rfl [(0, vr (some 0)), (1, vi p0), (2, vi p1)] rfl (fun X hX B => ?_)
  skip
  have B : FX X E cX0_safest 6 (some .int) "RoseThrow" "safest" (sn s) (ss s) 246 13745 := B
  unfold F_X0_safest at h
  refine r_aload_n (j := 0) B dX0_safest_0 rfl rfl ?_
  refine r_iload_n (j := 1) B dX0_safest_1 rfl rfl ?_
  obtain ⟨r1, s2, hc3, h⟩ := bnd_e h
  refine r_callVv (As := [vi p0]) (rest := []) B rfl rfl EX.same (c_X0_isCatcher B.ge hS hc3) (cw_X0_isCatcher rfl rfl) (fun z => RV.of 0 (by rw [((hS _).1 z).1 0 (by decide)]; rfl) rfl rfl qs12) q654 q656 rfl dX0_safest_2 ?_
  refine r_if_eq (tgt := 17) B dX0_safest_5 (by decide) (fun cn4 => ?_) (fun cn4 => ?_)
  · have h := ot cn4 h
    refine r_iconst (v := -1) B dX0_safest_17 (by decide) ?_
    exact r_iret B dX0_safest_18 h
  · have h := of cn4 h
    refine r_iload_n (j := 2) B dX0_safest_8 rfl rfl ?_
    refine r_iconst (v := 0) B dX0_safest_9 (by decide) ?_
    refine r_iconst (v := 2) B dX0_safest_10 (by decide) ?_
    obtain ⟨r5, s6, hc7, h⟩ := bnd_e h
    refine r_callSv (As := [vi p1, vi (0 : Int32), vi (2 : Int32)]) (rest := []) B rfl EX.same (c_X0_in B.ge hS hc7) (cw_X0_in rfl rfl) q445 q446 rfl dX0_safest_11 ?_
    refine r_if_ne (tgt := 19) B dX0_safest_14 (by decide) (fun cn8 => ?_) (fun cn8 => ?_)
    · have h := of cn8 h
      refine r_aload_n (j := 0) B dX0_safest_19 rfl rfl ?_
      obtain ⟨r9, s10, hc11, h⟩ := bnd_e h
      refine r_callV0 (As := []) (rest := []) B rfl rfl EX.same (c_X0_looks B.ge hS hc11) (cw_X0_looks rfl rfl) (fun z => RV.of 0 (by rw [((hS _).1 z).1 0 (by decide)]; rfl) rfl rfl qs26) q1253 q1255 rfl dX0_safest_20 ?_
      refine r_iconst (v := -1) B dX0_safest_23 (by decide) ?_
      refine r_istore_n (L' := [(0, vr (some 0)), (1, vi p0), (2, vi p1), (3, vi (-1 : Int32))]) B dX0_safest_24 rfl (by decide) rfl rfl rfl ?_
      refine r_iconst (v := 0) B dX0_safest_25 (by decide) ?_
      refine r_istore (L' := [(0, vr (some 0)), (1, vi p0), (2, vi p1), (3, vi (-1 : Int32)), (4, vi (0 : Int32))]) B dX0_safest_26 (by decide) rfl rfl rfl ?_
      exact w_X0_safest_28 B hS FU s10 p0 p1 (-1 : Int32) (0 : Int32) h
    · have h := ot cn8 h
      refine r_iconst (v := -1) B dX0_safest_17 (by decide) ?_
      exact r_iret B dX0_safest_18 h
set_option maxHeartbeats 4000000 in
theorem cw_X0_safest {X : CX} {fr lo : Nat} (h1 : Nat.ble (246 + 1) fr = true) (h2 : Nat.ble (25 + 13745) lo = true) : CW X fr lo yX0_safest cX0_safest 6 (some .int) 246 13745 2 := ⟨q1376, q126, ⟨by decide +kernel, by decide +kernel, by decide +kernel⟩, Nat.le_of_ble_eq_true h1, Nat.le_of_ble_eq_true h2⟩

set_option maxHeartbeats 4000000 in
noncomputable def F_X0_crowd_114 (s : St) (z0 : Int32) (z1 : Int64) (z2 : Int64) : Option (Int64 × St) := bnd (F_X0_tells s z2 z1 z0) fun r1 s2 => some (r1, s2)
set_option maxHeartbeats 4000000 in
theorem w_X0_crowd_114 {X : CX} {E : EV} {a0 s' : St} {r : Int64} (B : FX X E cX0_crowd 4 (some .long) "RoseThrow" "crowd" (sn a0) (ss a0) 246 13745) (hS : ∀ σ, eSk E σ ↔ SkC σ) (s : St) (z0 : Int32) (z1 : Int64) (z2 : Int64) (h : F_X0_crowd_114   s z0 z1 z2 = some (r, s')) : J X E (sn a0) (ss a0) 4 (QR X E a0 (some (vl r)) s') s 114 [] [vi z0, vl z1, vl z2] := by
  unfold F_X0_crowd_114 at h
  obtain ⟨r1, s2, hc3, h⟩ := bnd_e h
  refine r_callSv (As := [vl z2, vl z1, vi z0]) (rest := []) B rfl EX.same (c_X0_tells B.ge hS hc3) (cw_X0_tells rfl rfl) q1281 q1282 rfl dX0_crowd_114 ?_
  exact r_lret B dX0_crowd_117 h
set_option maxHeartbeats 4000000 in
noncomputable def F_X0_crowd_25 : Nat → St → Int32 → Int32 → Int32 → Option (Int64 × St)
  | 0 => fun _ _ _ _ => none
  | n + 1 => fun s x1 x2 x3 => if (si s 2 8) < x3 then (if x1 = 0 then (some (((x2).toInt64), s)) else (if x1 = (1 : Int32) then (F_X0_crowd_114 s (1 : Int32) (sl s 0 23) (sl s 0 22)) else (F_X0_crowd_114 s (0 : Int32) (sl s 0 23) (sl s 0 22)))) else (nam (setI s 0 20 x3) fun s4 => bnd (F_X4_lower s4 23) fun r6 s7 => bnd (F_X0_chance s7 (-1 : Int32) (some 23) (some 3)) fun r9 s10 => bnd (F_X4_lower s10 23) fun r12 s13 => bnd (F_X0_isMore s13 (r6 - r9) r12) fun r15 s16 => if r15 = 0 then (F_X0_crowd_25  n s16 x1 x2 (x3 + (1))) else (F_X0_crowd_25  n s16 x1 x3 (x3 + (1))))
set_option maxHeartbeats 4000000 in
theorem w_X0_crowd_25 {X : CX} {E : EV} {a0 s' : St} {r : Int64} (B : FX X E cX0_crowd 4 (some .long) "RoseThrow" "crowd" (sn a0) (ss a0) 246 13745) (hS : ∀ σ, eSk E σ ↔ SkC σ) : ∀ (n : Nat) (s : St) (x1 : Int32) (x2 : Int32) (x3 : Int32), F_X0_crowd_25   n s x1 x2 x3 = some (r, s') → J X E (sn a0) (ss a0) 4 (QR X E a0 (some (vl r)) s') s 25 [(0, vr (some 0)), (1, vi x1), (2, vi x2), (3, vi x3)] [] := by
  intro n
  induction n with
  | zero => intro s x1 x2 x3 h; exact absurd (show (none : Option (Int64 × St)) = _ from h) (by simp)
  | succ n ih =>
    intro s x1 x2 x3 h
    rw [F_X0_crowd_25] at h
    refine r_iload_n (j := 3) B dX0_crowd_25 rfl rfl ?_
    refine r_aload_n (j := 0) B dX0_crowd_26 rfl rfl ?_
    refine g0 (k := 2) B (vr (some 2)) rfl (fun z => by rw [((hS _).1 z).1 0 (by decide)]; rfl) rfl q358 rfl (fun z => by rw [((hS _).1 z).2 _ (List.mem_of_getElem? (i := 1) rfl)]; rfl) dX0_crowd_27 ?_
    refine g1N (k := 8) B (vi (si s 2 8)) rfl (fun z => by rw [((hS _).1 z).1 2 (by decide)]; rfl) rfl (lw_n q222 rfl) rfl (fun _ => rfl) dX0_crowd_30 ?_
    refine r_ic_gt (tgt := 87) B dX0_crowd_33 (by decide) (fun cn1 => ?_) (fun cn1 => ?_)
    · have h := ot cn1 h
      refine r_iload_n (j := 1) B dX0_crowd_87 rfl rfl ?_
      refine r_if_ne (tgt := 96) B dX0_crowd_88 (by decide) (fun cn2 => ?_) (fun cn2 => ?_)
      · have h := of cn2 h
        refine r_aload_n (j := 0) B dX0_crowd_96 rfl rfl ?_
        refine g0 (k := 22) B (vl (sl s 0 22)) rfl (fun z => by rw [((hS _).1 z).1 0 (by decide)]; rfl) rfl q378 rfl (fun _ => rfl) dX0_crowd_97 ?_
        refine r_aload_n (j := 0) B dX0_crowd_100 rfl rfl ?_
        refine g0 (k := 23) B (vl (sl s 0 23)) rfl (fun z => by rw [((hS _).1 z).1 0 (by decide)]; rfl) rfl q379 rfl (fun _ => rfl) dX0_crowd_101 ?_
        refine r_iload_n (j := 1) B dX0_crowd_104 rfl rfl ?_
        refine r_iconst (v := 1) B dX0_crowd_105 (by decide) ?_
        refine r_ic_ne (tgt := 113) B dX0_crowd_106 (by decide) (fun cn3 => ?_) (fun cn3 => ?_)
        · have h := of cn3 h
          refine r_iconst (v := 0) B dX0_crowd_113 (by decide) ?_
          refine r_pick [] (L' := []) rfl ?_
          exact w_X0_crowd_114 B hS s (0 : Int32) (sl s 0 23) (sl s 0 22) h
        · have h := ot cn3 h
          refine r_iconst (v := 1) B dX0_crowd_109 (by decide) ?_
          refine r_goto (tgt := 114) B dX0_crowd_110 (by decide) ?_
          refine r_pick [] (L' := []) rfl ?_
          exact w_X0_crowd_114 B hS s (1 : Int32) (sl s 0 23) (sl s 0 22) h
      · have h := ot cn2 h
        refine r_iload_n (j := 2) B dX0_crowd_91 rfl rfl ?_
        refine r_i2l B dX0_crowd_92 ?_
        refine r_goto (tgt := 117) B dX0_crowd_93 (by decide) ?_
        exact r_lret B dX0_crowd_117 h
    · have h := of cn1 h
      refine r_aload_n (j := 0) B dX0_crowd_36 rfl rfl ?_
      refine r_iload_n (j := 3) B dX0_crowd_37 rfl rfl ?_
      obtain ⟨s4, e5, h⟩ := nam_e h
      refine pI0 (k := 20) B e5 rfl (fun z => by rw [((hS _).1 z).1 0 (by decide)]; rfl) rfl q376 rfl rfl (fun _ _ _ => rfl) rfl dX0_crowd_38 ?_
      refine r_aload_n (j := 0) B dX0_crowd_41 rfl rfl ?_
      refine r_aload_n (j := 0) B dX0_crowd_42 rfl rfl ?_
      refine g0 (k := 17) B (vr (some 23)) rfl (fun z => by rw [((hS _).1 z).1 0 (by decide)]; rfl) rfl q373 rfl (fun z => by rw [((hS _).1 z).2 _ (List.mem_of_getElem? (i := 11) rfl)]; rfl) dX0_crowd_43 ?_
      obtain ⟨r6, s7, hc8, h⟩ := bnd_e h
      refine r_callVv (As := []) (rest := [vr (some 0)]) B rfl rfl EX.same (c_X4_lower B.ge hS hc8) (cw_X4_lower rfl rfl) (fun z => RV.of 4 ((fun z => by rw [((hS _).1 z).1 23 (by decide)]; rfl) z) rfl rfl q1311) q1309 q1310 rfl dX0_crowd_46 ?_
      refine r_aload_n (j := 0) B dX0_crowd_49 rfl rfl ?_
      refine r_iconst (v := -1) B dX0_crowd_50 (by decide) ?_
      refine r_aload_n (j := 0) B dX0_crowd_51 rfl rfl ?_
      refine g0 (k := 17) B (vr (some 23)) rfl (fun z => by rw [((hS _).1 z).1 0 (by decide)]; rfl) rfl q373 rfl (fun z => by rw [((hS _).1 z).2 _ (List.mem_of_getElem? (i := 11) rfl)]; rfl) dX0_crowd_52 ?_
      refine r_aload_n (j := 0) B dX0_crowd_55 rfl rfl ?_
      refine g0 (k := 2) B (vr (some 2)) rfl (fun z => by rw [((hS _).1 z).1 0 (by decide)]; rfl) rfl q358 rfl (fun z => by rw [((hS _).1 z).2 _ (List.mem_of_getElem? (i := 1) rfl)]; rfl) dX0_crowd_56 ?_
      refine g1N (k := 0) B (vr (some 3)) rfl (fun z => by rw [((hS _).1 z).1 2 (by decide)]; rfl) rfl (lw_n q206 rfl) rfl (fun z => by rw [((hS _).1 z).2 _ (List.mem_of_getElem? (i := 17) rfl)]; rfl) dX0_crowd_59 ?_
      obtain ⟨r9, s10, hc11, h⟩ := bnd_e h
      refine r_callVv (As := [vi (-1 : Int32), vr (some 23), vr (some 3)]) (rest := [vl r6, vr (some 0)]) B rfl rfl EX.same (c_X0_chance B.ge hS hc11) (cw_X0_chance rfl rfl) (fun z => RV.of 0 (by rw [((hS _).1 z).1 0 (by decide)]; rfl) rfl rfl qs30) q1291 q1293 rfl dX0_crowd_62 ?_
      refine r_lsub B dX0_crowd_65 ?_
      refine r_aload_n (j := 0) B dX0_crowd_66 rfl rfl ?_
      refine g0 (k := 17) B (vr (some 23)) rfl (fun z => by rw [((hS _).1 z).1 0 (by decide)]; rfl) rfl q373 rfl (fun z => by rw [((hS _).1 z).2 _ (List.mem_of_getElem? (i := 11) rfl)]; rfl) dX0_crowd_67 ?_
      obtain ⟨r12, s13, hc14, h⟩ := bnd_e h
      refine r_callVv (As := []) (rest := [vl (r6 - r9), vr (some 0)]) B rfl rfl EX.same (c_X4_lower B.ge hS hc14) (cw_X4_lower rfl rfl) (fun z => RV.of 4 ((fun z => by rw [((hS _).1 z).1 23 (by decide)]; rfl) z) rfl rfl q1311) q1309 q1310 rfl dX0_crowd_70 ?_
      obtain ⟨r15, s16, hc17, h⟩ := bnd_e h
      refine r_callVv (As := [vl (r6 - r9), vl r12]) (rest := []) B rfl rfl EX.same (c_X0_isMore B.ge hS hc17) (cw_X0_isMore rfl rfl) (fun z => RV.of 0 (by rw [((hS _).1 z).1 0 (by decide)]; rfl) rfl rfl qs38) q1346 q1348 rfl dX0_crowd_73 ?_
      refine r_if_eq (tgt := 81) B dX0_crowd_76 (by decide) (fun cn18 => ?_) (fun cn18 => ?_)
      · have h := ot cn18 h
        refine r_iinc (j := 3) (v := (x3 + (1))) (L' := [(0, vr (some 0)), (1, vi x1), (2, vi x2), (3, vi (x3 + (1)))]) B dX0_crowd_81 rfl rfl (by decide) rfl rfl rfl ?_
        refine r_goto (tgt := 25) B dX0_crowd_84 (by decide) ?_
        exact ih s16 x1 x2 (x3 + (1)) h
      · have h := of cn18 h
        refine r_iload_n (j := 3) B dX0_crowd_79 rfl rfl ?_
        refine r_istore_n (L' := [(0, vr (some 0)), (1, vi x1), (2, vi x3), (3, vi x3)]) B dX0_crowd_80 rfl (by decide) rfl rfl rfl ?_
        refine r_iinc (j := 3) (v := (x3 + (1))) (L' := [(0, vr (some 0)), (1, vi x1), (2, vi x3), (3, vi (x3 + (1)))]) B dX0_crowd_81 rfl rfl (by decide) rfl rfl rfl ?_
        refine r_goto (tgt := 25) B dX0_crowd_84 (by decide) ?_
        exact ih s16 x1 x3 (x3 + (1)) h
set_option maxHeartbeats 4000000 in
noncomputable def F_X0_crowd (s : St) (p0 : Int32) : Option (Int64 × St) := bnd (F_X0_in s p0 (0 : Int32) (2 : Int32)) fun r1 s2 => if r1 = 0 then (some ((-1 : Int64), s2)) else (bnd (F_X0_looks s2) fun _ s6 => bnd (F_X0_none s6) fun _ s9 => F_X0_crowd_25 FU s9 p0 (0 : Int32) (0 : Int32))
set_option maxHeartbeats 4000000 in
theorem c_X0_crowd {l : Launch} {E : EV} (hE : GE E) (hS : ∀ σ, eSk E σ ↔ SkC σ) {s s' : St} {r : Int64} {p0 : Int32} (h : F_X0_crowd  s p0 = some (r, s')) : CT l E yX0_crowd cX0_crowd 4 (some .long) 246 13745 [vr (some 0), vi p0] s (some (vl r)) s' := by
  refine CT.start hE (by decide) rfl [(0, vr (some 0)), (1, vi p0)] rfl (fun X hX B => ?_)
  skip
  have B : FX X E cX0_crowd 4 (some .long) "RoseThrow" "crowd" (sn s) (ss s) 246 13745 := B
  unfold F_X0_crowd at h
  refine r_iload_n (j := 1) B dX0_crowd_0 rfl rfl ?_
  refine r_iconst (v := 0) B dX0_crowd_1 (by decide) ?_
  refine r_iconst (v := 2) B dX0_crowd_2 (by decide) ?_
  obtain ⟨r1, s2, hc3, h⟩ := bnd_e h
  refine r_callSv (As := [vi p0, vi (0 : Int32), vi (2 : Int32)]) (rest := []) B rfl EX.same (c_X0_in B.ge hS hc3) (cw_X0_in rfl rfl) q445 q446 rfl dX0_crowd_3 ?_
  refine r_if_ne (tgt := 13) B dX0_crowd_6 (by decide) (fun cn4 => ?_) (fun cn4 => ?_)
  · have h := of cn4 h
    refine r_aload_n (j := 0) B dX0_crowd_13 rfl rfl ?_
    obtain ⟨r5, s6, hc7, h⟩ := bnd_e h
    refine r_callV0 (As := []) (rest := []) B rfl rfl EX.same (c_X0_looks B.ge hS hc7) (cw_X0_looks rfl rfl) (fun z => RV.of 0 (by rw [((hS _).1 z).1 0 (by decide)]; rfl) rfl rfl qs26) q1253 q1255 rfl dX0_crowd_14 ?_
    refine r_aload_n (j := 0) B dX0_crowd_17 rfl rfl ?_
    obtain ⟨r8, s9, hc10, h⟩ := bnd_e h
    refine r_callV0 (As := []) (rest := []) B rfl rfl EX.same (c_X0_none B.ge hS hc10) (cw_X0_none rfl rfl) (fun z => RV.of 0 (by rw [((hS _).1 z).1 0 (by decide)]; rfl) rfl rfl qs37) q1342 q1344 rfl dX0_crowd_18 ?_
    refine r_iconst (v := 0) B dX0_crowd_21 (by decide) ?_
    refine r_istore_n (L' := [(0, vr (some 0)), (1, vi p0), (2, vi (0 : Int32))]) B dX0_crowd_22 rfl (by decide) rfl rfl rfl ?_
    refine r_iconst (v := 0) B dX0_crowd_23 (by decide) ?_
    refine r_istore_n (L' := [(0, vr (some 0)), (1, vi p0), (2, vi (0 : Int32)), (3, vi (0 : Int32))]) B dX0_crowd_24 rfl (by decide) rfl rfl rfl ?_
    exact w_X0_crowd_25 B hS FU s9 p0 (0 : Int32) (0 : Int32) h
  · have h := ot cn4 h
    refine r_ldc2 B dX0_crowd_9 q575 ?_
    exact r_lret B dX0_crowd_12 h
set_option maxHeartbeats 4000000 in
theorem cw_X0_crowd {X : CX} {fr lo : Nat} (h1 : Nat.ble (246 + 1) fr = true) (h2 : Nat.ble (23 + 13745) lo = true) : CW X fr lo yX0_crowd cX0_crowd 4 (some .long) 246 13745 1 := ⟨q1384, q126, ⟨by decide +kernel, by decide +kernel, by decide +kernel⟩, Nat.le_of_ble_eq_true h1, Nat.le_of_ble_eq_true h2⟩

set_option maxHeartbeats 4000000 in
noncomputable def F_X0_again_61 (s : St) (z0 : Int32) (z1 : Int64) (z2 : Int64) : Option (Int64 × St) := bnd (F_X0_tells s z2 z1 z0) fun r1 s2 => some (r1, s2)
set_option maxHeartbeats 4000000 in
theorem w_X0_again_61 {X : CX} {E : EV} {a0 s' : St} {r : Int64} (B : FX X E cX0_again 4 (some .long) "RoseThrow" "again" (sn a0) (ss a0) 246 13745) (hS : ∀ σ, eSk E σ ↔ SkC σ) (s : St) (z0 : Int32) (z1 : Int64) (z2 : Int64) (h : F_X0_again_61   s z0 z1 z2 = some (r, s')) : J X E (sn a0) (ss a0) 4 (QR X E a0 (some (vl r)) s') s 61 [] [vi z0, vl z1, vl z2] := by
  unfold F_X0_again_61 at h
  obtain ⟨r1, s2, hc3, h⟩ := bnd_e h
  refine r_callSv (As := [vl z2, vl z1, vi z0]) (rest := []) B rfl EX.same (c_X0_tells B.ge hS hc3) (cw_X0_tells rfl rfl) q1281 q1282 rfl dX0_again_61 ?_
  exact r_lret B dX0_again_64 h
set_option maxHeartbeats 4000000 in
noncomputable def F_X0_again (s : St) (p0 : Int32) : Option (Int64 × St) := bnd (F_X0_in s p0 (0 : Int32) (1 : Int32)) fun r1 s2 => if r1 = 0 then (some ((-1 : Int64), s2)) else (bnd (F_X0_looks s2) fun _ s6 => bnd (F_X0_chance s6 (-1 : Int32) (some 23) (some 3)) fun r8 s9 => bnd (F_X4_lower s9 23) fun r11 s12 => bnd (F_X4_lower s12 23) fun r14 s15 => if p0 = 0 then (F_X0_again_61 s15 (1 : Int32) (r11 * r14) (r8 * r8)) else (F_X0_again_61 s15 (0 : Int32) (r11 * r14) (r8 * r8)))
set_option maxHeartbeats 4000000 in
theorem c_X0_again {l : Launch} {E : EV} (hE : GE E) (hS : ∀ σ, eSk E σ ↔ SkC σ) {s s' : St} {r : Int64} {p0 : Int32} (h : F_X0_again  s p0 = some (r, s')) : CT l E yX0_again cX0_again 4 (some .long) 246 13745 [vr (some 0), vi p0] s (some (vl r)) s' := by
  refine CT.start hE (by decide) rfl [(0, vr (some 0)), (1, vi p0)] rfl (fun X hX B => ?_)
  skip
  have B : FX X E cX0_again 4 (some .long) "RoseThrow" "again" (sn s) (ss s) 246 13745 := B
  unfold F_X0_again at h
  refine r_iload_n (j := 1) B dX0_again_0 rfl rfl ?_
  refine r_iconst (v := 0) B dX0_again_1 (by decide) ?_
  refine r_iconst (v := 1) B dX0_again_2 (by decide) ?_
  obtain ⟨r1, s2, hc3, h⟩ := bnd_e h
  refine r_callSv (As := [vi p0, vi (0 : Int32), vi (1 : Int32)]) (rest := []) B rfl EX.same (c_X0_in B.ge hS hc3) (cw_X0_in rfl rfl) q445 q446 rfl dX0_again_3 ?_
  refine r_if_ne (tgt := 13) B dX0_again_6 (by decide) (fun cn4 => ?_) (fun cn4 => ?_)
  · have h := of cn4 h
    refine r_aload_n (j := 0) B dX0_again_13 rfl rfl ?_
    obtain ⟨r5, s6, hc7, h⟩ := bnd_e h
    refine r_callV0 (As := []) (rest := []) B rfl rfl EX.same (c_X0_looks B.ge hS hc7) (cw_X0_looks rfl rfl) (fun z => RV.of 0 (by rw [((hS _).1 z).1 0 (by decide)]; rfl) rfl rfl qs26) q1253 q1255 rfl dX0_again_14 ?_
    refine r_aload_n (j := 0) B dX0_again_17 rfl rfl ?_
    refine r_iconst (v := -1) B dX0_again_18 (by decide) ?_
    refine r_aload_n (j := 0) B dX0_again_19 rfl rfl ?_
    refine g0 (k := 17) B (vr (some 23)) rfl (fun z => by rw [((hS _).1 z).1 0 (by decide)]; rfl) rfl q373 rfl (fun z => by rw [((hS _).1 z).2 _ (List.mem_of_getElem? (i := 11) rfl)]; rfl) dX0_again_20 ?_
    refine r_aload_n (j := 0) B dX0_again_23 rfl rfl ?_
    refine g0 (k := 2) B (vr (some 2)) rfl (fun z => by rw [((hS _).1 z).1 0 (by decide)]; rfl) rfl q358 rfl (fun z => by rw [((hS _).1 z).2 _ (List.mem_of_getElem? (i := 1) rfl)]; rfl) dX0_again_24 ?_
    refine g1N (k := 0) B (vr (some 3)) rfl (fun z => by rw [((hS _).1 z).1 2 (by decide)]; rfl) rfl (lw_n q206 rfl) rfl (fun z => by rw [((hS _).1 z).2 _ (List.mem_of_getElem? (i := 17) rfl)]; rfl) dX0_again_27 ?_
    obtain ⟨r8, s9, hc10, h⟩ := bnd_e h
    refine r_callVv (As := [vi (-1 : Int32), vr (some 23), vr (some 3)]) (rest := []) B rfl rfl EX.same (c_X0_chance B.ge hS hc10) (cw_X0_chance rfl rfl) (fun z => RV.of 0 (by rw [((hS _).1 z).1 0 (by decide)]; rfl) rfl rfl qs30) q1291 q1293 rfl dX0_again_30 ?_
    refine r_lstore_n (L' := [(0, vr (some 0)), (1, vi p0), (2, vl r8)]) B dX0_again_33 rfl (by decide) rfl rfl rfl ?_
    refine r_lload_n (j := 2) B dX0_again_34 rfl rfl ?_
    refine r_lload_n (j := 2) B dX0_again_35 rfl rfl ?_
    refine r_lmul B dX0_again_36 ?_
    refine r_aload_n (j := 0) B dX0_again_37 rfl rfl ?_
    refine g0 (k := 17) B (vr (some 23)) rfl (fun z => by rw [((hS _).1 z).1 0 (by decide)]; rfl) rfl q373 rfl (fun z => by rw [((hS _).1 z).2 _ (List.mem_of_getElem? (i := 11) rfl)]; rfl) dX0_again_38 ?_
    obtain ⟨r11, s12, hc13, h⟩ := bnd_e h
    refine r_callVv (As := []) (rest := [vl (r8 * r8)]) B rfl rfl EX.same (c_X4_lower B.ge hS hc13) (cw_X4_lower rfl rfl) (fun z => RV.of 4 ((fun z => by rw [((hS _).1 z).1 23 (by decide)]; rfl) z) rfl rfl q1311) q1309 q1310 rfl dX0_again_41 ?_
    refine r_aload_n (j := 0) B dX0_again_44 rfl rfl ?_
    refine g0 (k := 17) B (vr (some 23)) rfl (fun z => by rw [((hS _).1 z).1 0 (by decide)]; rfl) rfl q373 rfl (fun z => by rw [((hS _).1 z).2 _ (List.mem_of_getElem? (i := 11) rfl)]; rfl) dX0_again_45 ?_
    obtain ⟨r14, s15, hc16, h⟩ := bnd_e h
    refine r_callVv (As := []) (rest := [vl r11, vl (r8 * r8)]) B rfl rfl EX.same (c_X4_lower B.ge hS hc16) (cw_X4_lower rfl rfl) (fun z => RV.of 4 ((fun z => by rw [((hS _).1 z).1 23 (by decide)]; rfl) z) rfl rfl q1311) q1309 q1310 rfl dX0_again_48 ?_
    refine r_lmul B dX0_again_51 ?_
    refine r_iload_n (j := 1) B dX0_again_52 rfl rfl ?_
    refine r_if_ne (tgt := 60) B dX0_again_53 (by decide) (fun cn17 => ?_) (fun cn17 => ?_)
    · have h := of cn17 h
      refine r_iconst (v := 0) B dX0_again_60 (by decide) ?_
      refine r_pick [] (L' := []) rfl ?_
      exact w_X0_again_61 B hS s15 (0 : Int32) (r11 * r14) (r8 * r8) h
    · have h := ot cn17 h
      refine r_iconst (v := 1) B dX0_again_56 (by decide) ?_
      refine r_goto (tgt := 61) B dX0_again_57 (by decide) ?_
      refine r_pick [] (L' := []) rfl ?_
      exact w_X0_again_61 B hS s15 (1 : Int32) (r11 * r14) (r8 * r8) h
  · have h := ot cn4 h
    refine r_ldc2 B dX0_again_9 q575 ?_
    exact r_lret B dX0_again_12 h
set_option maxHeartbeats 4000000 in
theorem cw_X0_again {X : CX} {fr lo : Nat} (h1 : Nat.ble (246 + 1) fr = true) (h2 : Nat.ble (23 + 13745) lo = true) : CW X fr lo yX0_again cX0_again 4 (some .long) 246 13745 1 := ⟨q1388, q126, ⟨by decide +kernel, by decide +kernel, by decide +kernel⟩, Nat.le_of_ble_eq_true h1, Nat.le_of_ble_eq_true h2⟩

set_option maxHeartbeats 4000000 in
noncomputable def F_X0_truly_90 (s : St) (z0 : Int32) (z1 : Int64) (z2 : Int64) : Option (Int64 × St) := bnd (F_X0_tells s z2 z1 z0) fun r1 s2 => some (r1, s2)
set_option maxHeartbeats 4000000 in
theorem w_X0_truly_90 {X : CX} {E : EV} {a0 s' : St} {r : Int64} (B : FX X E cX0_truly 5 (some .long) "RoseThrow" "truly" (sn a0) (ss a0) 246 13745) (hS : ∀ σ, eSk E σ ↔ SkC σ) (s : St) (z0 : Int32) (z1 : Int64) (z2 : Int64) (h : F_X0_truly_90   s z0 z1 z2 = some (r, s')) : J X E (sn a0) (ss a0) 5 (QR X E a0 (some (vl r)) s') s 90 [] [vi z0, vl z1, vl z2] := by
  unfold F_X0_truly_90 at h
  obtain ⟨r1, s2, hc3, h⟩ := bnd_e h
  refine r_callSv (As := [vl z2, vl z1, vi z0]) (rest := []) B rfl EX.same (c_X0_tells B.ge hS hc3) (cw_X0_tells rfl rfl) q1281 q1282 rfl dX0_truly_90 ?_
  exact r_lret B dX0_truly_93 h
set_option maxHeartbeats 4000000 in
noncomputable def F_X0_truly_22 : Nat → St → Int32 → Int64 → Int32 → Option (Int64 × St)
  | 0 => fun _ _ _ _ => none
  | n + 1 => fun s x1 x2 x4 => if (si s 2 8) ≤ x4 then (bnd (F_X4_lower s 23) fun r2 s3 => if x1 = 0 then (F_X0_truly_90 s3 (1 : Int32) ((100 : Int64) * r2) x2) else (F_X0_truly_90 s3 (0 : Int32) ((100 : Int64) * r2) x2)) else (bnd (F_X0_chance s x4 (some 23) (some 3)) fun r6 s7 => bnd (F_X0_wed s7 x4 (1 : Int32)) fun r9 s10 => F_X0_truly_22  n s10 x1 (x2 + (r6 * ((r9).toInt64))) (x4 + (1)))
set_option maxHeartbeats 4000000 in
theorem w_X0_truly_22 {X : CX} {E : EV} {a0 s' : St} {r : Int64} (B : FX X E cX0_truly 5 (some .long) "RoseThrow" "truly" (sn a0) (ss a0) 246 13745) (hS : ∀ σ, eSk E σ ↔ SkC σ) : ∀ (n : Nat) (s : St) (x1 : Int32) (x2 : Int64) (x4 : Int32), F_X0_truly_22   n s x1 x2 x4 = some (r, s') → J X E (sn a0) (ss a0) 5 (QR X E a0 (some (vl r)) s') s 22 [(0, vr (some 0)), (1, vi x1), (2, vl x2), (4, vi x4)] [] := by
  intro n
  induction n with
  | zero => intro s x1 x2 x4 h; exact absurd (show (none : Option (Int64 × St)) = _ from h) (by simp)
  | succ n ih =>
    intro s x1 x2 x4 h
    rw [F_X0_truly_22] at h
    refine r_iload (j := 3) B dX0_truly_22 rfl ?_
    refine r_aload_n (j := 0) B dX0_truly_24 rfl rfl ?_
    refine g0 (k := 2) B (vr (some 2)) rfl (fun z => by rw [((hS _).1 z).1 0 (by decide)]; rfl) rfl q358 rfl (fun z => by rw [((hS _).1 z).2 _ (List.mem_of_getElem? (i := 1) rfl)]; rfl) dX0_truly_25 ?_
    refine g1N (k := 8) B (vi (si s 2 8)) rfl (fun z => by rw [((hS _).1 z).1 2 (by decide)]; rfl) rfl (lw_n q222 rfl) rfl (fun _ => rfl) dX0_truly_28 ?_
    refine r_ic_ge (tgt := 69) B dX0_truly_31 (by decide) (fun cn1 => ?_) (fun cn1 => ?_)
    · have h := ot cn1 h
      refine r_lload_n (j := 2) B dX0_truly_69 rfl rfl ?_
      refine r_ldc2 B dX0_truly_70 q1393 ?_
      refine r_aload_n (j := 0) B dX0_truly_73 rfl rfl ?_
      refine g0 (k := 17) B (vr (some 23)) rfl (fun z => by rw [((hS _).1 z).1 0 (by decide)]; rfl) rfl q373 rfl (fun z => by rw [((hS _).1 z).2 _ (List.mem_of_getElem? (i := 11) rfl)]; rfl) dX0_truly_74 ?_
      obtain ⟨r2, s3, hc4, h⟩ := bnd_e h
      refine r_callVv (As := []) (rest := [vl (100 : Int64), vl x2]) B rfl rfl EX.same (c_X4_lower B.ge hS hc4) (cw_X4_lower rfl rfl) (fun z => RV.of 4 ((fun z => by rw [((hS _).1 z).1 23 (by decide)]; rfl) z) rfl rfl q1311) q1309 q1310 rfl dX0_truly_77 ?_
      refine r_lmul B dX0_truly_80 ?_
      refine r_iload_n (j := 1) B dX0_truly_81 rfl rfl ?_
      refine r_if_ne (tgt := 89) B dX0_truly_82 (by decide) (fun cn5 => ?_) (fun cn5 => ?_)
      · have h := of cn5 h
        refine r_iconst (v := 0) B dX0_truly_89 (by decide) ?_
        refine r_pick [] (L' := []) rfl ?_
        exact w_X0_truly_90 B hS s3 (0 : Int32) ((100 : Int64) * r2) x2 h
      · have h := ot cn5 h
        refine r_iconst (v := 1) B dX0_truly_85 (by decide) ?_
        refine r_goto (tgt := 90) B dX0_truly_86 (by decide) ?_
        refine r_pick [] (L' := []) rfl ?_
        exact w_X0_truly_90 B hS s3 (1 : Int32) ((100 : Int64) * r2) x2 h
    · have h := of cn1 h
      refine r_lload_n (j := 2) B dX0_truly_34 rfl rfl ?_
      refine r_aload_n (j := 0) B dX0_truly_35 rfl rfl ?_
      refine r_iload (j := 3) B dX0_truly_36 rfl ?_
      refine r_aload_n (j := 0) B dX0_truly_38 rfl rfl ?_
      refine g0 (k := 17) B (vr (some 23)) rfl (fun z => by rw [((hS _).1 z).1 0 (by decide)]; rfl) rfl q373 rfl (fun z => by rw [((hS _).1 z).2 _ (List.mem_of_getElem? (i := 11) rfl)]; rfl) dX0_truly_39 ?_
      refine r_aload_n (j := 0) B dX0_truly_42 rfl rfl ?_
      refine g0 (k := 2) B (vr (some 2)) rfl (fun z => by rw [((hS _).1 z).1 0 (by decide)]; rfl) rfl q358 rfl (fun z => by rw [((hS _).1 z).2 _ (List.mem_of_getElem? (i := 1) rfl)]; rfl) dX0_truly_43 ?_
      refine g1N (k := 0) B (vr (some 3)) rfl (fun z => by rw [((hS _).1 z).1 2 (by decide)]; rfl) rfl (lw_n q206 rfl) rfl (fun z => by rw [((hS _).1 z).2 _ (List.mem_of_getElem? (i := 17) rfl)]; rfl) dX0_truly_46 ?_
      obtain ⟨r6, s7, hc8, h⟩ := bnd_e h
      refine r_callVv (As := [vi x4, vr (some 23), vr (some 3)]) (rest := [vl x2]) B rfl rfl EX.same (c_X0_chance B.ge hS hc8) (cw_X0_chance rfl rfl) (fun z => RV.of 0 (by rw [((hS _).1 z).1 0 (by decide)]; rfl) rfl rfl qs30) q1291 q1293 rfl dX0_truly_49 ?_
      refine r_aload_n (j := 0) B dX0_truly_52 rfl rfl ?_
      refine r_iload (j := 3) B dX0_truly_53 rfl ?_
      refine r_iconst (v := 1) B dX0_truly_55 (by decide) ?_
      obtain ⟨r9, s10, hc11, h⟩ := bnd_e h
      refine r_callVv (As := [vi x4, vi (1 : Int32)]) (rest := [vl r6, vl x2]) B rfl rfl EX.same (c_X0_wed B.ge hS hc11) (cw_X0_wed rfl rfl) (fun z => RV.of 0 (by rw [((hS _).1 z).1 0 (by decide)]; rfl) rfl rfl qs18) q1197 q1199 rfl dX0_truly_56 ?_
      refine r_i2l B dX0_truly_59 ?_
      refine r_lmul B dX0_truly_60 ?_
      refine r_ladd B dX0_truly_61 ?_
      refine r_lstore_n (L' := [(0, vr (some 0)), (1, vi x1), (2, vl (x2 + (r6 * ((r9).toInt64)))), (4, vi x4)]) B dX0_truly_62 rfl (by decide) rfl rfl rfl ?_
      refine r_iinc (j := 3) (v := (x4 + (1))) (L' := [(0, vr (some 0)), (1, vi x1), (2, vl (x2 + (r6 * ((r9).toInt64)))), (4, vi (x4 + (1)))]) B dX0_truly_63 rfl rfl (by decide) rfl rfl rfl ?_
      refine r_goto (tgt := 22) B dX0_truly_66 (by decide) ?_
      exact ih s10 x1 (x2 + (r6 * ((r9).toInt64))) (x4 + (1)) h
set_option maxHeartbeats 4000000 in
noncomputable def F_X0_truly (s : St) (p0 : Int32) : Option (Int64 × St) := bnd (F_X0_in s p0 (0 : Int32) (1 : Int32)) fun r1 s2 => if r1 = 0 then (some ((-1 : Int64), s2)) else (bnd (F_X0_looks s2) fun _ s6 => F_X0_truly_22 FU s6 p0 (0 : Int64) (0 : Int32))
set_option maxHeartbeats 4000000 in
theorem c_X0_truly {l : Launch} {E : EV} (hE : GE E) (hS : ∀ σ, eSk E σ ↔ SkC σ) {s s' : St} {r : Int64} {p0 : Int32} (h : F_X0_truly  s p0 = some (r, s')) : CT l E yX0_truly cX0_truly 5 (some .long) 246 13745 [vr (some 0), vi p0] s (some (vl r)) s' := by
  refine CT.start hE (by decide) rfl [(0, vr (some 0)), (1, vi p0)] rfl (fun X hX B => ?_)
  skip
  have B : FX X E cX0_truly 5 (some .long) "RoseThrow" "truly" (sn s) (ss s) 246 13745 := B
  unfold F_X0_truly at h
  refine r_iload_n (j := 1) B dX0_truly_0 rfl rfl ?_
  refine r_iconst (v := 0) B dX0_truly_1 (by decide) ?_
  refine r_iconst (v := 1) B dX0_truly_2 (by decide) ?_
  obtain ⟨r1, s2, hc3, h⟩ := bnd_e h
  refine r_callSv (As := [vi p0, vi (0 : Int32), vi (1 : Int32)]) (rest := []) B rfl EX.same (c_X0_in B.ge hS hc3) (cw_X0_in rfl rfl) q445 q446 rfl dX0_truly_3 ?_
  refine r_if_ne (tgt := 13) B dX0_truly_6 (by decide) (fun cn4 => ?_) (fun cn4 => ?_)
  · have h := of cn4 h
    refine r_aload_n (j := 0) B dX0_truly_13 rfl rfl ?_
    obtain ⟨r5, s6, hc7, h⟩ := bnd_e h
    refine r_callV0 (As := []) (rest := []) B rfl rfl EX.same (c_X0_looks B.ge hS hc7) (cw_X0_looks rfl rfl) (fun z => RV.of 0 (by rw [((hS _).1 z).1 0 (by decide)]; rfl) rfl rfl qs26) q1253 q1255 rfl dX0_truly_14 ?_
    refine r_lconst (v := 0) B dX0_truly_17 (by decide) ?_
    refine r_lstore_n (L' := [(0, vr (some 0)), (1, vi p0), (2, vl (0 : Int64))]) B dX0_truly_18 rfl (by decide) rfl rfl rfl ?_
    refine r_iconst (v := 0) B dX0_truly_19 (by decide) ?_
    refine r_istore (L' := [(0, vr (some 0)), (1, vi p0), (2, vl (0 : Int64)), (4, vi (0 : Int32))]) B dX0_truly_20 (by decide) rfl rfl rfl ?_
    exact w_X0_truly_22 B hS FU s6 p0 (0 : Int64) (0 : Int32) h
  · have h := ot cn4 h
    refine r_ldc2 B dX0_truly_9 q575 ?_
    exact r_lret B dX0_truly_12 h
set_option maxHeartbeats 4000000 in
theorem cw_X0_truly {X : CX} {fr lo : Nat} (h1 : Nat.ble (246 + 1) fr = true) (h2 : Nat.ble (24 + 13745) lo = true) : CW X fr lo yX0_truly cX0_truly 5 (some .long) 246 13745 1 := ⟨q1392, q126, ⟨by decide +kernel, by decide +kernel, by decide +kernel⟩, Nat.le_of_ble_eq_true h1, Nat.le_of_ble_eq_true h2⟩

set_option maxHeartbeats 4000000 in
noncomputable def F_X0_meant_122 : Nat → St → Int32 → Int32 → Int64 → Int32 → Option (Int64 × St)
  | 0 => fun _ _ _ _ _ => none
  | n + 1 => fun s x3 x4 x5 x7 => if (si s 2 8) ≤ x7 then (some (((x4).toInt64), s)) else (gd (inb x3 25) <| bnd (F_X0_chance s x7 (sr s 26 x3.toNatClampNeg) (some 3)) fun r3 s4 => if x5 < r3 then (F_X0_meant_122  n s4 x3 x7 r3 (x7 + (1))) else (F_X0_meant_122  n s4 x3 x4 x5 (x7 + (1))))
set_option maxHeartbeats 4000000 in
theorem w_X0_meant_122 {X : CX} {E : EV} {a0 s' : St} {r : Int64} (B : FX X E cX0_meant 10 (some .long) "RoseThrow" "meant" (sn a0) (ss a0) 247 13766) (hS : ∀ σ, eSk E σ ↔ SkC σ) : ∀ (n : Nat) (s : St) (x3 : Int32) (x4 : Int32) (x5 : Int64) (x7 : Int32), F_X0_meant_122   n s x3 x4 x5 x7 = some (r, s') → J X E (sn a0) (ss a0) 10 (QR X E a0 (some (vl r)) s') s 122 [(0, vr (some 0)), (3, vi x3), (4, vi x4), (5, vl x5), (7, vi x7)] [] := by
  intro n
  induction n with
  | zero => intro s x3 x4 x5 x7 h; exact absurd (show (none : Option (Int64 × St)) = _ from h) (by simp)
  | succ n ih =>
    intro s x3 x4 x5 x7 h
    rw [F_X0_meant_122] at h
    refine r_iload (j := 4) B dX0_meant_122 rfl ?_
    refine r_aload_n (j := 0) B dX0_meant_124 rfl rfl ?_
    refine g0 (k := 2) B (vr (some 2)) rfl (fun z => by rw [((hS _).1 z).1 0 (by decide)]; rfl) rfl q358 rfl (fun z => by rw [((hS _).1 z).2 _ (List.mem_of_getElem? (i := 1) rfl)]; rfl) dX0_meant_125 ?_
    refine g1N (k := 8) B (vi (si s 2 8)) rfl (fun z => by rw [((hS _).1 z).1 2 (by decide)]; rfl) rfl (lw_n q222 rfl) rfl (fun _ => rfl) dX0_meant_128 ?_
    refine r_ic_ge (tgt := 180) B dX0_meant_131 (by decide) (fun cn1 => ?_) (fun cn1 => ?_)
    · have h := ot cn1 h
      refine r_iload (j := 2) B dX0_meant_180 rfl ?_
      refine r_i2l B dX0_meant_182 ?_
      exact r_lret B dX0_meant_183 h
    · have h := of cn1 h
      refine r_aload_n (j := 0) B dX0_meant_134 rfl rfl ?_
      refine r_iload (j := 4) B dX0_meant_135 rfl ?_
      refine r_aload_n (j := 0) B dX0_meant_137 rfl rfl ?_
      refine g0 (k := 18) B (vr (some 26)) rfl (fun z => by rw [((hS _).1 z).1 0 (by decide)]; rfl) rfl q374 rfl (fun z => by rw [((hS _).1 z).2 _ (List.mem_of_getElem? (i := 12) rfl)]; rfl) dX0_meant_138 ?_
      refine r_iload_n (j := 1) B dX0_meant_141 rfl rfl ?_
      obtain ⟨hg2, h⟩ := gd_e h
      refine r_aald 6 "RoseThrow$Flight" ⟨by decide, by decide, rfl⟩ B rfl (fun z => ((hS _).1 z).1 26 (by decide)) hg2 dX0_meant_142 ?_
      refine r_aload_n (j := 0) B dX0_meant_143 rfl rfl ?_
      refine g0 (k := 2) B (vr (some 2)) rfl (fun z => by rw [((hS _).1 z).1 0 (by decide)]; rfl) rfl q358 rfl (fun z => by rw [((hS _).1 z).2 _ (List.mem_of_getElem? (i := 1) rfl)]; rfl) dX0_meant_144 ?_
      refine g1N (k := 0) B (vr (some 3)) rfl (fun z => by rw [((hS _).1 z).1 2 (by decide)]; rfl) rfl (lw_n q206 rfl) rfl (fun z => by rw [((hS _).1 z).2 _ (List.mem_of_getElem? (i := 17) rfl)]; rfl) dX0_meant_147 ?_
      obtain ⟨r3, s4, hc5, h⟩ := bnd_e h
      refine r_callVv (As := [vi x7, vr (sr s 26 x3.toNatClampNeg), vr (some 3)]) (rest := []) B rfl rfl EX.same (c_X0_chance B.ge hS hc5) (cw_X0_chance rfl rfl) (fun z => RV.of 0 (by rw [((hS _).1 z).1 0 (by decide)]; rfl) rfl rfl qs30) q1291 q1293 rfl dX0_meant_150 ?_
      refine r_lstore (L' := [(0, vr (some 0)), (3, vi x3), (4, vi x4), (5, vl x5), (7, vi x7), (8, vl r3)]) B dX0_meant_153 (by decide) rfl rfl rfl ?_
      refine r_lload (j := 5) B dX0_meant_155 rfl ?_
      refine r_lload (j := 3) B dX0_meant_157 rfl ?_
      refine r_lcmp B dX0_meant_159 ?_
      refine r_if_gt (tgt := 166) B dX0_meant_160 (by decide) (fun cn6 => ?_) (fun cn6 => ?_)
      · have h := ot (lc_gt.mp cn6) h
        refine r_lload (j := 5) B dX0_meant_166 rfl ?_
        refine r_lstore (L' := [(0, vr (some 0)), (3, vi x3), (4, vi x4), (5, vl r3), (7, vi x7), (8, vl r3)]) B dX0_meant_168 (by decide) rfl rfl rfl ?_
        refine r_iload (j := 4) B dX0_meant_170 rfl ?_
        refine r_istore (L' := [(0, vr (some 0)), (3, vi x3), (4, vi x7), (5, vl r3), (7, vi x7), (8, vl r3)]) B dX0_meant_172 (by decide) rfl rfl rfl ?_
        refine r_iinc (j := 4) (v := (x7 + (1))) (L' := [(0, vr (some 0)), (3, vi x3), (4, vi x7), (5, vl r3), (7, vi (x7 + (1))), (8, vl r3)]) B dX0_meant_174 rfl rfl (by decide) rfl rfl rfl ?_
        refine r_goto (tgt := 122) B dX0_meant_177 (by decide) ?_
        refine r_pick [0, 1, 2, 3, 4] (L' := [(0, vr (some 0)), (3, vi x3), (4, vi x7), (5, vl r3), (7, vi (x7 + (1)))]) rfl ?_
        exact ih s4 x3 x7 r3 (x7 + (1)) h
      · have h := of (fun z => cn6 (lc_gt.mpr z)) h
        refine r_goto (tgt := 174) B dX0_meant_163 (by decide) ?_
        refine r_iinc (j := 4) (v := (x7 + (1))) (L' := [(0, vr (some 0)), (3, vi x3), (4, vi x4), (5, vl x5), (7, vi (x7 + (1))), (8, vl r3)]) B dX0_meant_174 rfl rfl (by decide) rfl rfl rfl ?_
        refine r_goto (tgt := 122) B dX0_meant_177 (by decide) ?_
        refine r_pick [0, 1, 2, 3, 4] (L' := [(0, vr (some 0)), (3, vi x3), (4, vi x4), (5, vl x5), (7, vi (x7 + (1)))]) rfl ?_
        exact ih s4 x3 x4 x5 (x7 + (1)) h
set_option maxHeartbeats 4000000 in
noncomputable def F_X0_meant_95 (s : St) (x2 : Int32) (x3 : Int32) : Option (Int64 × St) := if x3 = (-1 : Int32) then (some ((-1 : Int64), s)) else (bnd (F_X0_friendOf s x3 x2) fun r2 s3 => some (r2, s3))
set_option maxHeartbeats 4000000 in
theorem w_X0_meant_95 {X : CX} {E : EV} {a0 s' : St} {r : Int64} (B : FX X E cX0_meant 10 (some .long) "RoseThrow" "meant" (sn a0) (ss a0) 247 13766) (hS : ∀ σ, eSk E σ ↔ SkC σ) (s : St) (x2 : Int32) (x3 : Int32) (h : F_X0_meant_95   s x2 x3 = some (r, s')) : J X E (sn a0) (ss a0) 10 (QR X E a0 (some (vl r)) s') s 95 [(0, vr (some 0)), (2, vi x2), (3, vi x3)] [] := by
  unfold F_X0_meant_95 at h
  refine r_iload_n (j := 2) B dX0_meant_95 rfl rfl ?_
  refine r_iconst (v := -1) B dX0_meant_96 (by decide) ?_
  refine r_ic_ne (tgt := 106) B dX0_meant_97 (by decide) (fun cn1 => ?_) (fun cn1 => ?_)
  · have h := of cn1 h
    refine r_aload_n (j := 0) B dX0_meant_106 rfl rfl ?_
    refine r_iload_n (j := 2) B dX0_meant_107 rfl rfl ?_
    refine r_iload_n (j := 1) B dX0_meant_108 rfl rfl ?_
    obtain ⟨r2, s3, hc4, h⟩ := bnd_e h
    refine r_callVv (As := [vi x3, vi x2]) (rest := []) B rfl rfl EX.same (c_X0_friendOf B.ge hS hc4) (cw_X0_friendOf rfl rfl) (fun z => RV.of 0 (by rw [((hS _).1 z).1 0 (by decide)]; rfl) rfl rfl qs39) q1350 q1352 rfl dX0_meant_109 ?_
    exact r_lret B dX0_meant_112 h
  · have h := ot cn1 h
    refine r_ldc2 B dX0_meant_100 q575 ?_
    refine r_goto (tgt := 112) B dX0_meant_103 (by decide) ?_
    exact r_lret B dX0_meant_112 h
set_option maxHeartbeats 4000000 in
noncomputable def F_X0_meant_39 : Nat → St → Int32 → Int32 → Int32 → Int32 → Option (Int64 × St)
  | 0 => fun _ _ _ _ _ => none
  | n + 1 => fun s x1 x2 x3 x4 => if (25 : Int32) ≤ x4 then (if x3 = (-1 : Int32) then (F_X0_meant_95 s x2 x3) else (if (4 : Int32) ≤ x2 then (F_X0_meant_122 FU s x3 (-1 : Int32) (0 : Int64) (0 : Int32)) else (F_X0_meant_95 s x2 x3))) else (gd (inb x4 25) <| drf (sr s 26 x4.toNatClampNeg) fun a5 => gd (isK s a5 4) <| bnd (F_X4_weightOf s a5 x1) fun r8 s9 => gd (inb x4 25) <| drf (sr s9 26 x4.toNatClampNeg) fun a12 => gd (isK s9 a12 4) <| bnd (F_X0_isMore s9 ((r8).toInt64) (((si s9 a12 3)).toInt64)) fun r15 s16 => if r15 = 0 then (F_X0_meant_39  n s16 x1 x2 x3 (x4 + (1))) else (F_X0_meant_39  n s16 x1 x2 x4 (x4 + (1))))
set_option maxHeartbeats 4000000 in
theorem w_X0_meant_39 {X : CX} {E : EV} {a0 s' : St} {r : Int64} (B : FX X E cX0_meant 10 (some .long) "RoseThrow" "meant" (sn a0) (ss a0) 247 13766) (hS : ∀ σ, eSk E σ ↔ SkC σ) : ∀ (n : Nat) (s : St) (x1 : Int32) (x2 : Int32) (x3 : Int32) (x4 : Int32), F_X0_meant_39   n s x1 x2 x3 x4 = some (r, s') → J X E (sn a0) (ss a0) 10 (QR X E a0 (some (vl r)) s') s 39 [(0, vr (some 0)), (1, vi x1), (2, vi x2), (3, vi x3), (4, vi x4)] [] := by
  intro n
  induction n with
  | zero => intro s x1 x2 x3 x4 h; exact absurd (show (none : Option (Int64 × St)) = _ from h) (by simp)
  | succ n ih =>
    intro s x1 x2 x3 x4 h
    rw [F_X0_meant_39] at h
    refine r_iload (j := 4) B dX0_meant_39 rfl ?_
    refine r_bipush (v := 25) B dX0_meant_41 (by decide) ?_
    refine r_ic_ge (tgt := 85) B dX0_meant_43 (by decide) (fun cn1 => ?_) (fun cn1 => ?_)
    · have h := ot cn1 h
      refine r_iload_n (j := 3) B dX0_meant_85 rfl rfl ?_
      refine r_iconst (v := -1) B dX0_meant_86 (by decide) ?_
      refine r_ic_eq (tgt := 95) B dX0_meant_87 (by decide) (fun cn2 => ?_) (fun cn2 => ?_)
      · have h := ot cn2 h
        refine r_pick [0, 2, 3] (L' := [(0, vr (some 0)), (2, vi x2), (3, vi x3)]) rfl ?_
        exact w_X0_meant_95 B hS s x2 x3 h
      · have h := of cn2 h
        refine r_iload_n (j := 2) B dX0_meant_90 rfl rfl ?_
        refine r_iconst (v := 4) B dX0_meant_91 (by decide) ?_
        refine r_ic_ge (tgt := 113) B dX0_meant_92 (by decide) (fun cn3 => ?_) (fun cn3 => ?_)
        · have h := ot cn3 h
          refine r_iconst (v := -1) B dX0_meant_113 (by decide) ?_
          refine r_istore (L' := [(0, vr (some 0)), (1, vi x1), (2, vi x2), (3, vi x3), (4, vi (-1 : Int32))]) B dX0_meant_114 (by decide) rfl rfl rfl ?_
          refine r_lconst (v := 0) B dX0_meant_116 (by decide) ?_
          refine r_lstore (L' := [(0, vr (some 0)), (1, vi x1), (2, vi x2), (3, vi x3), (4, vi (-1 : Int32)), (5, vl (0 : Int64))]) B dX0_meant_117 (by decide) rfl rfl rfl ?_
          refine r_iconst (v := 0) B dX0_meant_119 (by decide) ?_
          refine r_istore (L' := [(0, vr (some 0)), (1, vi x1), (2, vi x2), (3, vi x3), (4, vi (-1 : Int32)), (5, vl (0 : Int64)), (7, vi (0 : Int32))]) B dX0_meant_120 (by decide) rfl rfl rfl ?_
          refine r_pick [0, 3, 4, 5, 6] (L' := [(0, vr (some 0)), (3, vi x3), (4, vi (-1 : Int32)), (5, vl (0 : Int64)), (7, vi (0 : Int32))]) rfl ?_
          exact w_X0_meant_122 B hS FU s x3 (-1 : Int32) (0 : Int64) (0 : Int32) h
        · have h := of cn3 h
          refine r_pick [0, 2, 3] (L' := [(0, vr (some 0)), (2, vi x2), (3, vi x3)]) rfl ?_
          exact w_X0_meant_95 B hS s x2 x3 h
    · have h := of cn1 h
      refine r_aload_n (j := 0) B dX0_meant_46 rfl rfl ?_
      refine r_aload_n (j := 0) B dX0_meant_47 rfl rfl ?_
      refine g0 (k := 18) B (vr (some 26)) rfl (fun z => by rw [((hS _).1 z).1 0 (by decide)]; rfl) rfl q374 rfl (fun z => by rw [((hS _).1 z).2 _ (List.mem_of_getElem? (i := 12) rfl)]; rfl) dX0_meant_48 ?_
      refine r_iload (j := 4) B dX0_meant_51 rfl ?_
      obtain ⟨hg4, h⟩ := gd_e h
      refine r_aald 6 "RoseThrow$Flight" ⟨by decide, by decide, rfl⟩ B rfl (fun z => ((hS _).1 z).1 26 (by decide)) hg4 dX0_meant_53 ?_
      refine r_iload_n (j := 1) B dX0_meant_54 rfl rfl ?_
      obtain ⟨a5, ea6, h⟩ := drf_e h
      obtain ⟨hg7, h⟩ := gd_e h
      obtain ⟨r8, s9, hc10, h⟩ := bnd_e h
      refine r_callVv (As := [vi x1]) (rest := [vr (some 0)]) B rfl ea6 EX.same (c_X4_weightOf B.ge hS hc10) (cw_X4_weightOf rfl rfl) (fun z => RV.of 4 ((fun _ => isK_e hg7) z) rfl rfl q1279) q1277 q1278 rfl dX0_meant_55 ?_
      refine r_i2l B dX0_meant_58 ?_
      refine r_aload_n (j := 0) B dX0_meant_59 rfl rfl ?_
      refine g0 (k := 18) B (vr (some 26)) rfl (fun z => by rw [((hS _).1 z).1 0 (by decide)]; rfl) rfl q374 rfl (fun z => by rw [((hS _).1 z).2 _ (List.mem_of_getElem? (i := 12) rfl)]; rfl) dX0_meant_60 ?_
      refine r_iload (j := 4) B dX0_meant_63 rfl ?_
      obtain ⟨hg11, h⟩ := gd_e h
      refine r_aald 6 "RoseThrow$Flight" ⟨by decide, by decide, rfl⟩ B rfl (fun z => ((hS _).1 z).1 26 (by decide)) hg11 dX0_meant_65 ?_
      obtain ⟨a12, ea13, h⟩ := drf_e h
      obtain ⟨hg14, h⟩ := gd_e h
      refine g4N (k := 3) B (vi (si s9 a12 3)) ea13 (fun _ => isK_e hg14) rfl (lw_n q342 rfl) rfl (fun _ => rfl) dX0_meant_66 ?_
      refine r_i2l B dX0_meant_69 ?_
      obtain ⟨r15, s16, hc17, h⟩ := bnd_e h
      refine r_callVv (As := [vl ((r8).toInt64), vl (((si s9 a12 3)).toInt64)]) (rest := []) B rfl rfl EX.same (c_X0_isMore B.ge hS hc17) (cw_X0_isMore rfl rfl) (fun z => RV.of 0 (by rw [((hS _).1 z).1 0 (by decide)]; rfl) rfl rfl qs38) q1346 q1348 rfl dX0_meant_70 ?_
      refine r_if_eq (tgt := 79) B dX0_meant_73 (by decide) (fun cn18 => ?_) (fun cn18 => ?_)
      · have h := ot cn18 h
        refine r_iinc (j := 4) (v := (x4 + (1))) (L' := [(0, vr (some 0)), (1, vi x1), (2, vi x2), (3, vi x3), (4, vi (x4 + (1)))]) B dX0_meant_79 rfl rfl (by decide) rfl rfl rfl ?_
        refine r_goto (tgt := 39) B dX0_meant_82 (by decide) ?_
        exact ih s16 x1 x2 x3 (x4 + (1)) h
      · have h := of cn18 h
        refine r_iload (j := 4) B dX0_meant_76 rfl ?_
        refine r_istore_n (L' := [(0, vr (some 0)), (1, vi x1), (2, vi x2), (3, vi x4), (4, vi x4)]) B dX0_meant_78 rfl (by decide) rfl rfl rfl ?_
        refine r_iinc (j := 4) (v := (x4 + (1))) (L' := [(0, vr (some 0)), (1, vi x1), (2, vi x2), (3, vi x4), (4, vi (x4 + (1)))]) B dX0_meant_79 rfl rfl (by decide) rfl rfl rfl ?_
        refine r_goto (tgt := 39) B dX0_meant_82 (by decide) ?_
        exact ih s16 x1 x2 x4 (x4 + (1)) h
set_option maxHeartbeats 4000000 in
noncomputable def F_X0_meant (s : St) (p0 : Int32) (p1 : Int32) : Option (Int64 × St) := bnd (F_X0_isCell s p0) fun r1 s2 => if r1 = 0 then (some ((-1 : Int64), s2)) else (bnd (F_X0_in s2 p1 (0 : Int32) (4 : Int32)) fun r5 s6 => if r5 = 0 then (some ((-1 : Int64), s6)) else (bnd (F_X0_looksAtAll s6) fun _ s10 => nam (setL s10 0 22 (0 : Int64)) fun s12 => nam (setL s12 0 23 (1 : Int64)) fun s14 => F_X0_meant_39 FU s14 p0 p1 (-1 : Int32) (0 : Int32)))
set_option maxHeartbeats 4000000 in
theorem c_X0_meant {l : Launch} {E : EV} (hE : GE E) (hS : ∀ σ, eSk E σ ↔ SkC σ) {s s' : St} {r : Int64} {p0 : Int32} {p1 : Int32} (h : F_X0_meant  s p0 p1 = some (r, s')) : CT l E yX0_meant cX0_meant 10 (some .long) 247 13766 [vr (some 0), vi p0, vi p1] s (some (vl r)) s' := by
  refine CT.start hE (by decide) rfl [(0, vr (some 0)), (1, vi p0), (2, vi p1)] rfl (fun X hX B => ?_)
  skip
  have B : FX X E cX0_meant 10 (some .long) "RoseThrow" "meant" (sn s) (ss s) 247 13766 := B
  unfold F_X0_meant at h
  refine r_iload_n (j := 1) B dX0_meant_0 rfl rfl ?_
  obtain ⟨r1, s2, hc3, h⟩ := bnd_e h
  refine r_callSv (As := [vi p0]) (rest := []) B rfl EX.same (c_X0_isCell B.ge hS hc3) (cw_X0_isCell rfl rfl) q553 q554 rfl dX0_meant_1 ?_
  refine r_if_eq (tgt := 16) B dX0_meant_4 (by decide) (fun cn4 => ?_) (fun cn4 => ?_)
  · have h := ot cn4 h
    refine r_ldc2 B dX0_meant_16 q575 ?_
    exact r_lret B dX0_meant_19 h
  · have h := of cn4 h
    refine r_iload_n (j := 2) B dX0_meant_7 rfl rfl ?_
    refine r_iconst (v := 0) B dX0_meant_8 (by decide) ?_
    refine r_iconst (v := 4) B dX0_meant_9 (by decide) ?_
    obtain ⟨r5, s6, hc7, h⟩ := bnd_e h
    refine r_callSv (As := [vi p1, vi (0 : Int32), vi (4 : Int32)]) (rest := []) B rfl EX.same (c_X0_in B.ge hS hc7) (cw_X0_in rfl rfl) q445 q446 rfl dX0_meant_10 ?_
    refine r_if_ne (tgt := 20) B dX0_meant_13 (by decide) (fun cn8 => ?_) (fun cn8 => ?_)
    · have h := of cn8 h
      refine r_aload_n (j := 0) B dX0_meant_20 rfl rfl ?_
      obtain ⟨r9, s10, hc11, h⟩ := bnd_e h
      refine r_callV0 (As := []) (rest := []) B rfl rfl EX.same (c_X0_looksAtAll B.ge hS hc11) (cw_X0_looksAtAll rfl rfl) (fun z => RV.of 0 (by rw [((hS _).1 z).1 0 (by decide)]; rfl) rfl rfl qs36) q1338 q1340 rfl dX0_meant_21 ?_
      refine r_aload_n (j := 0) B dX0_meant_24 rfl rfl ?_
      refine r_lconst (v := 0) B dX0_meant_25 (by decide) ?_
      obtain ⟨s12, e13, h⟩ := nam_e h
      refine pL0 (k := 22) B e13 rfl (fun z => by rw [((hS _).1 z).1 0 (by decide)]; rfl) rfl q378 rfl rfl rfl dX0_meant_26 ?_
      refine r_aload_n (j := 0) B dX0_meant_29 rfl rfl ?_
      refine r_lconst (v := 1) B dX0_meant_30 (by decide) ?_
      obtain ⟨s14, e15, h⟩ := nam_e h
      refine pL0 (k := 23) B e15 rfl (fun z => by rw [((hS _).1 z).1 0 (by decide)]; rfl) rfl q379 rfl rfl rfl dX0_meant_31 ?_
      refine r_iconst (v := -1) B dX0_meant_34 (by decide) ?_
      refine r_istore_n (L' := [(0, vr (some 0)), (1, vi p0), (2, vi p1), (3, vi (-1 : Int32))]) B dX0_meant_35 rfl (by decide) rfl rfl rfl ?_
      refine r_iconst (v := 0) B dX0_meant_36 (by decide) ?_
      refine r_istore (L' := [(0, vr (some 0)), (1, vi p0), (2, vi p1), (3, vi (-1 : Int32)), (4, vi (0 : Int32))]) B dX0_meant_37 (by decide) rfl rfl rfl ?_
      exact w_X0_meant_39 B hS FU s14 p0 p1 (-1 : Int32) (0 : Int32) h
    · have h := ot cn8 h
      refine r_ldc2 B dX0_meant_16 q575 ?_
      exact r_lret B dX0_meant_19 h
set_option maxHeartbeats 4000000 in
theorem cw_X0_meant {X : CX} {fr lo : Nat} (h1 : Nat.ble (247 + 1) fr = true) (h2 : Nat.ble (29 + 13766) lo = true) : CW X fr lo yX0_meant cX0_meant 10 (some .long) 247 13766 2 := ⟨q1397, q126, ⟨by decide +kernel, by decide +kernel, by decide +kernel⟩, Nat.le_of_ble_eq_true h1, Nat.le_of_ble_eq_true h2⟩

set_option maxHeartbeats 4000000 in
noncomputable def F_X0_film (s : St) (p0 : Int32) : Option (Int32 × St) := bnd (F_X0_isCell s p0) fun r1 s2 => if r1 = 0 then (bnd (F_X0_refuse s2 (-1 : Int32)) fun r17 s18 => some (r17, s18)) else (if (si s2 2 9) = (8 : Int32) then (bnd (F_X0_refuse s2 (-5 : Int32)) fun r14 s15 => some (r14, s15)) else (gd (inb (si s2 2 9) 8) <| nam (setI s2 9 (si s2 2 9).toNatClampNeg p0) fun s7 => nam (setI s7 2 9 ((si s7 2 9) + (1 : Int32))) fun s9 => bnd (F_X0_done s9 (si s9 2 9)) fun r11 s12 => some (r11, s12)))
set_option maxHeartbeats 4000000 in
theorem c_X0_film {l : Launch} {E : EV} (hE : GE E) (hS : ∀ σ, eSk E σ ↔ SkC σ) {s s' : St} {r : Int32} {p0 : Int32} (h : F_X0_film  s p0 = some (r, s')) : CT l E yX0_film cX0_film 2 (some .int) 2 42 [vr (some 0), vi p0] s (some (vi r)) s' := by
  refine CT.start hE (by decide) rfl [(0, vr (some 0)), (1, vi p0)] rfl (fun X hX B => ?_)
  skip
  have B : FX X E cX0_film 2 (some .int) "RoseThrow" "film" (sn s) (ss s) 2 42 := B
  unfold F_X0_film at h
  refine r_iload_n (j := 1) B dX0_film_0 rfl rfl ?_
  obtain ⟨r1, s2, hc3, h⟩ := bnd_e h
  refine r_callSv (As := [vi p0]) (rest := []) B rfl EX.same (c_X0_isCell B.ge hS hc3) (cw_X0_isCell rfl rfl) q553 q554 rfl dX0_film_1 ?_
  refine r_if_ne (tgt := 13) B dX0_film_4 (by decide) (fun cn4 => ?_) (fun cn4 => ?_)
  · have h := of cn4 h
    refine r_aload_n (j := 0) B dX0_film_13 rfl rfl ?_
    refine g0 (k := 2) B (vr (some 2)) rfl (fun z => by rw [((hS _).1 z).1 0 (by decide)]; rfl) rfl q358 rfl (fun z => by rw [((hS _).1 z).2 _ (List.mem_of_getElem? (i := 1) rfl)]; rfl) dX0_film_14 ?_
    refine g1N (k := 9) B (vi (si s2 2 9)) rfl (fun z => by rw [((hS _).1 z).1 2 (by decide)]; rfl) rfl (lw_n q224 rfl) rfl (fun _ => rfl) dX0_film_17 ?_
    refine r_bipush (v := 8) B dX0_film_20 (by decide) ?_
    refine r_ic_ne (tgt := 32) B dX0_film_22 (by decide) (fun cn5 => ?_) (fun cn5 => ?_)
    · have h := of cn5 h
      refine r_aload_n (j := 0) B dX0_film_32 rfl rfl ?_
      refine g0 (k := 2) B (vr (some 2)) rfl (fun z => by rw [((hS _).1 z).1 0 (by decide)]; rfl) rfl q358 rfl (fun z => by rw [((hS _).1 z).2 _ (List.mem_of_getElem? (i := 1) rfl)]; rfl) dX0_film_33 ?_
      refine g1N (k := 6) B (vr (some 9)) rfl (fun z => by rw [((hS _).1 z).1 2 (by decide)]; rfl) rfl (lw_n q218 rfl) rfl (fun z => by rw [((hS _).1 z).2 _ (List.mem_of_getElem? (i := 23) rfl)]; rfl) dX0_film_36 ?_
      refine r_aload_n (j := 0) B dX0_film_39 rfl rfl ?_
      refine g0 (k := 2) B (vr (some 2)) rfl (fun z => by rw [((hS _).1 z).1 0 (by decide)]; rfl) rfl q358 rfl (fun z => by rw [((hS _).1 z).2 _ (List.mem_of_getElem? (i := 1) rfl)]; rfl) dX0_film_40 ?_
      refine g1N (k := 9) B (vi (si s2 2 9)) rfl (fun z => by rw [((hS _).1 z).1 2 (by decide)]; rfl) rfl (lw_n q224 rfl) rfl (fun _ => rfl) dX0_film_43 ?_
      refine r_iload_n (j := 1) B dX0_film_46 rfl rfl ?_
      obtain ⟨hg6, h⟩ := gd_e h
      obtain ⟨s7, e8, h⟩ := nam_e h
      refine r_iast B e8 rfl (fun z => ((hS _).1 z).1 9 (by decide)) hg6 dX0_film_47 ?_
      refine r_aload_n (j := 0) B dX0_film_48 rfl rfl ?_
      refine g0 (k := 2) B (vr (some 2)) rfl (fun z => by rw [((hS _).1 z).1 0 (by decide)]; rfl) rfl q358 rfl (fun z => by rw [((hS _).1 z).2 _ (List.mem_of_getElem? (i := 1) rfl)]; rfl) dX0_film_49 ?_
      refine r_dup B dX0_film_52 rfl ?_
      refine g1N (k := 9) B (vi (si s7 2 9)) rfl (fun z => by rw [((hS _).1 z).1 2 (by decide)]; rfl) rfl (lw_n q224 rfl) rfl (fun _ => rfl) dX0_film_53 ?_
      refine r_iconst (v := 1) B dX0_film_56 (by decide) ?_
      refine r_iadd B dX0_film_57 ?_
      obtain ⟨s9, e10, h⟩ := nam_e h
      refine pI1N (k := 9) B e10 rfl (fun z => by rw [((hS _).1 z).1 2 (by decide)]; rfl) rfl (lw_n q224 rfl) rfl rfl (fun _ _ _ => rfl) rfl dX0_film_58 ?_
      refine r_aload_n (j := 0) B dX0_film_61 rfl rfl ?_
      refine r_aload_n (j := 0) B dX0_film_62 rfl rfl ?_
      refine g0 (k := 2) B (vr (some 2)) rfl (fun z => by rw [((hS _).1 z).1 0 (by decide)]; rfl) rfl q358 rfl (fun z => by rw [((hS _).1 z).2 _ (List.mem_of_getElem? (i := 1) rfl)]; rfl) dX0_film_63 ?_
      refine g1N (k := 9) B (vi (si s9 2 9)) rfl (fun z => by rw [((hS _).1 z).1 2 (by decide)]; rfl) rfl (lw_n q224 rfl) rfl (fun _ => rfl) dX0_film_66 ?_
      obtain ⟨r11, s12, hc13, h⟩ := bnd_e h
      refine r_callVv (As := [vi (si s9 2 9)]) (rest := []) B rfl rfl EX.same (c_X0_done B.ge hS hc13) (cw_X0_done rfl rfl) (fun z => RV.of 0 (by rw [((hS _).1 z).1 0 (by decide)]; rfl) rfl rfl qs3) q533 q535 rfl dX0_film_69 ?_
      exact r_iret B dX0_film_72 h
    · have h := ot cn5 h
      refine r_aload_n (j := 0) B dX0_film_25 rfl rfl ?_
      refine r_bipush (v := -5) B dX0_film_26 (by decide) ?_
      obtain ⟨r14, s15, hc16, h⟩ := bnd_e h
      refine r_callVv (As := [vi (-5 : Int32)]) (rest := []) B rfl rfl EX.same (c_X0_refuse B.ge hS hc16) (cw_X0_refuse rfl rfl) (fun z => RV.of 0 (by rw [((hS _).1 z).1 0 (by decide)]; rfl) rfl rfl qs1) q448 q450 rfl dX0_film_28 ?_
      exact r_iret B dX0_film_31 h
  · have h := ot cn4 h
    refine r_aload_n (j := 0) B dX0_film_7 rfl rfl ?_
    refine r_iconst (v := -1) B dX0_film_8 (by decide) ?_
    obtain ⟨r17, s18, hc19, h⟩ := bnd_e h
    refine r_callVv (As := [vi (-1 : Int32)]) (rest := []) B rfl rfl EX.same (c_X0_refuse B.ge hS hc19) (cw_X0_refuse rfl rfl) (fun z => RV.of 0 (by rw [((hS _).1 z).1 0 (by decide)]; rfl) rfl rfl qs1) q448 q450 rfl dX0_film_9 ?_
    exact r_iret B dX0_film_12 h
set_option maxHeartbeats 4000000 in
theorem cw_X0_film {X : CX} {fr lo : Nat} (h1 : Nat.ble (2 + 1) fr = true) (h2 : Nat.ble (21 + 42) lo = true) : CW X fr lo yX0_film cX0_film 2 (some .int) 2 42 1 := ⟨q1401, q126, ⟨by decide +kernel, by decide +kernel, by decide +kernel⟩, Nat.le_of_ble_eq_true h1, Nat.le_of_ble_eq_true h2⟩

set_option maxHeartbeats 4000000 in
noncomputable def F_X0_burn (s : St)  : Option (Int32 × St) := nam (setI s 2 9 (0 : Int32)) fun s1 => some ((si s 2 9), s1)
set_option maxHeartbeats 4000000 in
theorem c_X0_burn {l : Launch} {E : EV} (hE : GE E) (hS : ∀ σ, eSk E σ ↔ SkC σ) {s s' : St} {r : Int32}  (h : F_X0_burn  s  = some (r, s')) : CT l E yX0_burn cX0_burn 2 (some .int) 0 0 [vr (some 0)] s (some (vi r)) s' := by
  refine CT.start hE (by decide) rfl [(0, vr (some 0))] rfl (fun X hX B => ?_)
  skip
  have B : FX X E cX0_burn 2 (some .int) "RoseThrow" "burn" (sn s) (ss s) 0 0 := B
  unfold F_X0_burn at h
  refine r_aload_n (j := 0) B dX0_burn_0 rfl rfl ?_
  refine g0 (k := 2) B (vr (some 2)) rfl (fun z => by rw [((hS _).1 z).1 0 (by decide)]; rfl) rfl q358 rfl (fun z => by rw [((hS _).1 z).2 _ (List.mem_of_getElem? (i := 1) rfl)]; rfl) dX0_burn_1 ?_
  refine g1N (k := 9) B (vi (si s 2 9)) rfl (fun z => by rw [((hS _).1 z).1 2 (by decide)]; rfl) rfl (lw_n q224 rfl) rfl (fun _ => rfl) dX0_burn_4 ?_
  refine r_istore_n (L' := [(0, vr (some 0)), (1, vi (si s 2 9))]) B dX0_burn_7 rfl (by decide) rfl rfl rfl ?_
  refine r_aload_n (j := 0) B dX0_burn_8 rfl rfl ?_
  refine g0 (k := 2) B (vr (some 2)) rfl (fun z => by rw [((hS _).1 z).1 0 (by decide)]; rfl) rfl q358 rfl (fun z => by rw [((hS _).1 z).2 _ (List.mem_of_getElem? (i := 1) rfl)]; rfl) dX0_burn_9 ?_
  refine r_iconst (v := 0) B dX0_burn_12 (by decide) ?_
  obtain ⟨s1, e2, h⟩ := nam_e h
  refine pI1N (k := 9) B e2 rfl (fun z => by rw [((hS _).1 z).1 2 (by decide)]; rfl) rfl (lw_n q224 rfl) rfl rfl (fun _ _ _ => rfl) rfl dX0_burn_13 ?_
  refine r_iload_n (j := 1) B dX0_burn_16 rfl rfl ?_
  exact r_iret B dX0_burn_17 h
set_option maxHeartbeats 4000000 in
theorem cw_X0_burn {X : CX} {fr lo : Nat} (h1 : Nat.ble (0 + 1) fr = true) (h2 : Nat.ble (21 + 0) lo = true) : CW X fr lo yX0_burn cX0_burn 2 (some .int) 0 0 0 := ⟨q1405, q126, ⟨by decide +kernel, by decide +kernel, by decide +kernel⟩, Nat.le_of_ble_eq_true h1, Nat.le_of_ble_eq_true h2⟩

set_option maxHeartbeats 4000000 in
noncomputable def F_X0_fits_68 (k15 : St → Int32 → Int32 → Int32 → Option (Int32 × St)) (k27 : St → Int32 → Int32 → Int32 → Int32 → Int32 → Option (Int32 × St)) (s : St) (x1 : Int32) (x2 : Int32) (x3 : Int32) (x5 : Int32) (z0 : Int32) (z1 : Int32) : Option (Int32 × St) := k27 s x1 x2 x3 (z1 &&& z0) (x5 + (1))
set_option maxHeartbeats 4000000 in
theorem w_X0_fits_68 {X : CX} {E : EV} {a0 s' : St} {r : Int32} (B : FX X E cX0_fits 6 (some .int) "RoseThrow" "fits" (sn a0) (ss a0) 247 13766) (hS : ∀ σ, eSk E σ ↔ SkC σ) (k15 : St → Int32 → Int32 → Int32 → Option (Int32 × St)) (k27 : St → Int32 → Int32 → Int32 → Int32 → Int32 → Option (Int32 × St)) (hk15 : ∀ (s : St) (x1 : Int32) (x2 : Int32) (x3 : Int32), k15 s x1 x2 x3 = some (r, s') → J X E (sn a0) (ss a0) 6 (QR X E a0 (some (vi r)) s') s 15 [(0, vr (some 0)), (1, vi x1), (2, vi x2), (3, vi x3)] []) (hk27 : ∀ (s : St) (x1 : Int32) (x2 : Int32) (x3 : Int32) (x4 : Int32) (x5 : Int32), k27 s x1 x2 x3 x4 x5 = some (r, s') → J X E (sn a0) (ss a0) 6 (QR X E a0 (some (vi r)) s') s 27 [(0, vr (some 0)), (1, vi x1), (2, vi x2), (3, vi x3), (4, vi x4), (5, vi x5)] []) (s : St) (x1 : Int32) (x2 : Int32) (x3 : Int32) (x5 : Int32) (z0 : Int32) (z1 : Int32) (h : F_X0_fits_68  k15 k27 s x1 x2 x3 x5 z0 z1 = some (r, s')) : J X E (sn a0) (ss a0) 6 (QR X E a0 (some (vi r)) s') s 68 [(0, vr (some 0)), (1, vi x1), (2, vi x2), (3, vi x3), (5, vi x5)] [vi z0, vi z1] := by
  unfold F_X0_fits_68 at h
  refine r_iand B dX0_fits_68 ?_
  refine r_istore (L' := [(0, vr (some 0)), (1, vi x1), (2, vi x2), (3, vi x3), (4, vi (z1 &&& z0)), (5, vi x5)]) B dX0_fits_69 (by decide) rfl rfl rfl ?_
  refine r_iinc (j := 5) (v := (x5 + (1))) (L' := [(0, vr (some 0)), (1, vi x1), (2, vi x2), (3, vi x3), (4, vi (z1 &&& z0)), (5, vi (x5 + (1)))]) B dX0_fits_71 rfl rfl (by decide) rfl rfl rfl ?_
  refine r_goto (tgt := 27) B dX0_fits_74 (by decide) ?_
  exact hk27 s x1 x2 x3 (z1 &&& z0) (x5 + (1)) h
set_option maxHeartbeats 4000000 in
noncomputable def F_X0_fits_27 (k15 : St → Int32 → Int32 → Int32 → Option (Int32 × St)) : Nat → St → Int32 → Int32 → Int32 → Int32 → Int32 → Option (Int32 × St)
  | 0 => fun _ _ _ _ _ _ => none
  | n + 1 => fun s x1 x2 x3 x4 x5 => if (si s 2 9) ≤ x5 then (if x4 = 0 then (k15 s x1 x2 (x3 + (1))) else (if x2 = x1 then (bnd (F_X0_forceOf s x3) fun r4 s5 => some ((((10 : Int32) * r4) + (x3 - x3 / (5 : Int32) * (5 : Int32))), s5)) else (k15 s x1 (x2 + (1)) (x3 + (1))))) else (gd (inb x3 25) <| gd (inb x5 8) <| drf (sr s 26 x3.toNatClampNeg) fun a9 => gd (isK s a9 4) <| bnd (F_X4_weightOf s a9 (si s 9 x5.toNatClampNeg)) fun r12 s13 => if r12 ≤ 0 then (F_X0_fits_68 k15 (F_X0_fits_27 k15 n) s13 x1 x2 x3 x5 (0 : Int32) x4) else (F_X0_fits_68 k15 (F_X0_fits_27 k15 n) s13 x1 x2 x3 x5 (1 : Int32) x4))
set_option maxHeartbeats 4000000 in
theorem w_X0_fits_27 {X : CX} {E : EV} {a0 s' : St} {r : Int32} (B : FX X E cX0_fits 6 (some .int) "RoseThrow" "fits" (sn a0) (ss a0) 247 13766) (hS : ∀ σ, eSk E σ ↔ SkC σ) (k15 : St → Int32 → Int32 → Int32 → Option (Int32 × St)) (hk15 : ∀ (s : St) (x1 : Int32) (x2 : Int32) (x3 : Int32), k15 s x1 x2 x3 = some (r, s') → J X E (sn a0) (ss a0) 6 (QR X E a0 (some (vi r)) s') s 15 [(0, vr (some 0)), (1, vi x1), (2, vi x2), (3, vi x3)] []) : ∀ (n : Nat) (s : St) (x1 : Int32) (x2 : Int32) (x3 : Int32) (x4 : Int32) (x5 : Int32), F_X0_fits_27  k15 n s x1 x2 x3 x4 x5 = some (r, s') → J X E (sn a0) (ss a0) 6 (QR X E a0 (some (vi r)) s') s 27 [(0, vr (some 0)), (1, vi x1), (2, vi x2), (3, vi x3), (4, vi x4), (5, vi x5)] [] := by
  intro n
  induction n with
  | zero => intro s x1 x2 x3 x4 x5 h; exact absurd (show (none : Option (Int32 × St)) = _ from h) (by simp)
  | succ n ih =>
    intro s x1 x2 x3 x4 x5 h
    rw [F_X0_fits_27] at h
    refine r_iload (j := 5) B dX0_fits_27 rfl ?_
    refine r_aload_n (j := 0) B dX0_fits_29 rfl rfl ?_
    refine g0 (k := 2) B (vr (some 2)) rfl (fun z => by rw [((hS _).1 z).1 0 (by decide)]; rfl) rfl q358 rfl (fun z => by rw [((hS _).1 z).2 _ (List.mem_of_getElem? (i := 1) rfl)]; rfl) dX0_fits_30 ?_
    refine g1N (k := 9) B (vi (si s 2 9)) rfl (fun z => by rw [((hS _).1 z).1 2 (by decide)]; rfl) rfl (lw_n q224 rfl) rfl (fun _ => rfl) dX0_fits_33 ?_
    refine r_ic_ge (tgt := 77) B dX0_fits_36 (by decide) (fun cn1 => ?_) (fun cn1 => ?_)
    · have h := ot cn1 h
      refine r_iload (j := 4) B dX0_fits_77 rfl ?_
      refine r_if_ne (tgt := 85) B dX0_fits_79 (by decide) (fun cn2 => ?_) (fun cn2 => ?_)
      · have h := of cn2 h
        refine r_iload_n (j := 2) B dX0_fits_85 rfl rfl ?_
        refine r_iload_n (j := 1) B dX0_fits_86 rfl rfl ?_
        refine r_ic_ne (tgt := 102) B dX0_fits_87 (by decide) (fun cn3 => ?_) (fun cn3 => ?_)
        · have h := of cn3 h
          refine r_iinc (j := 2) (v := (x2 + (1))) (L' := [(0, vr (some 0)), (1, vi x1), (2, vi (x2 + (1))), (3, vi x3), (4, vi x4), (5, vi x5)]) B dX0_fits_102 rfl rfl (by decide) rfl rfl rfl ?_
          refine r_iinc (j := 3) (v := (x3 + (1))) (L' := [(0, vr (some 0)), (1, vi x1), (2, vi (x2 + (1))), (3, vi (x3 + (1))), (4, vi x4), (5, vi x5)]) B dX0_fits_105 rfl rfl (by decide) rfl rfl rfl ?_
          refine r_goto (tgt := 15) B dX0_fits_108 (by decide) ?_
          refine r_pick [0, 1, 2, 3] (L' := [(0, vr (some 0)), (1, vi x1), (2, vi (x2 + (1))), (3, vi (x3 + (1)))]) rfl ?_
          exact hk15 s x1 (x2 + (1)) (x3 + (1)) h
        · have h := ot cn3 h
          refine r_bipush (v := 10) B dX0_fits_90 (by decide) ?_
          refine r_iload_n (j := 3) B dX0_fits_92 rfl rfl ?_
          obtain ⟨r4, s5, hc6, h⟩ := bnd_e h
          refine r_callSv (As := [vi x3]) (rest := [vi (10 : Int32)]) B rfl EX.same (c_X0_forceOf B.ge hS hc6) (cw_X0_forceOf rfl rfl) q1354 q1355 rfl dX0_fits_93 ?_
          refine r_imul B dX0_fits_96 ?_
          refine r_iload_n (j := 3) B dX0_fits_97 rfl rfl ?_
          refine r_iconst (v := 5) B dX0_fits_98 (by decide) ?_
          refine r_irem B dX0_fits_99 (by decide) ?_
          refine r_iadd B dX0_fits_100 ?_
          exact r_iret B dX0_fits_101 h
      · have h := ot cn2 h
        refine r_goto (tgt := 105) B dX0_fits_82 (by decide) ?_
        refine r_iinc (j := 3) (v := (x3 + (1))) (L' := [(0, vr (some 0)), (1, vi x1), (2, vi x2), (3, vi (x3 + (1))), (4, vi x4), (5, vi x5)]) B dX0_fits_105 rfl rfl (by decide) rfl rfl rfl ?_
        refine r_goto (tgt := 15) B dX0_fits_108 (by decide) ?_
        refine r_pick [0, 1, 2, 3] (L' := [(0, vr (some 0)), (1, vi x1), (2, vi x2), (3, vi (x3 + (1)))]) rfl ?_
        exact hk15 s x1 x2 (x3 + (1)) h
    · have h := of cn1 h
      refine r_iload (j := 4) B dX0_fits_39 rfl ?_
      refine r_aload_n (j := 0) B dX0_fits_41 rfl rfl ?_
      refine g0 (k := 18) B (vr (some 26)) rfl (fun z => by rw [((hS _).1 z).1 0 (by decide)]; rfl) rfl q374 rfl (fun z => by rw [((hS _).1 z).2 _ (List.mem_of_getElem? (i := 12) rfl)]; rfl) dX0_fits_42 ?_
      refine r_iload_n (j := 3) B dX0_fits_45 rfl rfl ?_
      obtain ⟨hg7, h⟩ := gd_e h
      refine r_aald 6 "RoseThrow$Flight" ⟨by decide, by decide, rfl⟩ B rfl (fun z => ((hS _).1 z).1 26 (by decide)) hg7 dX0_fits_46 ?_
      refine r_aload_n (j := 0) B dX0_fits_47 rfl rfl ?_
      refine g0 (k := 2) B (vr (some 2)) rfl (fun z => by rw [((hS _).1 z).1 0 (by decide)]; rfl) rfl q358 rfl (fun z => by rw [((hS _).1 z).2 _ (List.mem_of_getElem? (i := 1) rfl)]; rfl) dX0_fits_48 ?_
      refine g1N (k := 6) B (vr (some 9)) rfl (fun z => by rw [((hS _).1 z).1 2 (by decide)]; rfl) rfl (lw_n q218 rfl) rfl (fun z => by rw [((hS _).1 z).2 _ (List.mem_of_getElem? (i := 23) rfl)]; rfl) dX0_fits_51 ?_
      refine r_iload (j := 5) B dX0_fits_54 rfl ?_
      obtain ⟨hg8, h⟩ := gd_e h
      refine r_iald B rfl (fun z => ((hS _).1 z).1 9 (by decide)) hg8 dX0_fits_56 ?_
      obtain ⟨a9, ea10, h⟩ := drf_e h
      obtain ⟨hg11, h⟩ := gd_e h
      obtain ⟨r12, s13, hc14, h⟩ := bnd_e h
      refine r_callVv (As := [vi (si s 9 x5.toNatClampNeg)]) (rest := [vi x4]) B rfl ea10 EX.same (c_X4_weightOf B.ge hS hc14) (cw_X4_weightOf rfl rfl) (fun z => RV.of 4 ((fun _ => isK_e hg11) z) rfl rfl q1279) q1277 q1278 rfl dX0_fits_57 ?_
      refine r_if_le (tgt := 67) B dX0_fits_60 (by decide) (fun cn15 => ?_) (fun cn15 => ?_)
      · have h := ot cn15 h
        refine r_iconst (v := 0) B dX0_fits_67 (by decide) ?_
        refine r_pick [0, 1, 2, 3, 5] (L' := [(0, vr (some 0)), (1, vi x1), (2, vi x2), (3, vi x3), (5, vi x5)]) rfl ?_
        exact w_X0_fits_68 B hS k15 (F_X0_fits_27 k15 n) hk15 ih s13 x1 x2 x3 x5 (0 : Int32) x4 h
      · have h := of cn15 h
        refine r_iconst (v := 1) B dX0_fits_63 (by decide) ?_
        refine r_goto (tgt := 68) B dX0_fits_64 (by decide) ?_
        refine r_pick [0, 1, 2, 3, 5] (L' := [(0, vr (some 0)), (1, vi x1), (2, vi x2), (3, vi x3), (5, vi x5)]) rfl ?_
        exact w_X0_fits_68 B hS k15 (F_X0_fits_27 k15 n) hk15 ih s13 x1 x2 x3 x5 (1 : Int32) x4 h
set_option maxHeartbeats 4000000 in
noncomputable def F_X0_fits_15 : Nat → St → Int32 → Int32 → Int32 → Option (Int32 × St)
  | 0 => fun _ _ _ _ => none
  | n + 1 => fun s x1 x2 x3 => if (25 : Int32) ≤ x3 then (if x1 = (-1 : Int32) then (some (x2, s)) else (some ((-1 : Int32), s))) else (F_X0_fits_27 (F_X0_fits_15  n) FU s x1 x2 x3 (1 : Int32) (0 : Int32))
set_option maxHeartbeats 4000000 in
theorem w_X0_fits_15 {X : CX} {E : EV} {a0 s' : St} {r : Int32} (B : FX X E cX0_fits 6 (some .int) "RoseThrow" "fits" (sn a0) (ss a0) 247 13766) (hS : ∀ σ, eSk E σ ↔ SkC σ) : ∀ (n : Nat) (s : St) (x1 : Int32) (x2 : Int32) (x3 : Int32), F_X0_fits_15   n s x1 x2 x3 = some (r, s') → J X E (sn a0) (ss a0) 6 (QR X E a0 (some (vi r)) s') s 15 [(0, vr (some 0)), (1, vi x1), (2, vi x2), (3, vi x3)] [] := by
  intro n
  induction n with
  | zero => intro s x1 x2 x3 h; exact absurd (show (none : Option (Int32 × St)) = _ from h) (by simp)
  | succ n ih =>
    intro s x1 x2 x3 h
    rw [F_X0_fits_15] at h
    refine r_iload_n (j := 3) B dX0_fits_15 rfl rfl ?_
    refine r_bipush (v := 25) B dX0_fits_16 (by decide) ?_
    refine r_ic_ge (tgt := 111) B dX0_fits_18 (by decide) (fun cn1 => ?_) (fun cn1 => ?_)
    · have h := ot cn1 h
      refine r_iload_n (j := 1) B dX0_fits_111 rfl rfl ?_
      refine r_iconst (v := -1) B dX0_fits_112 (by decide) ?_
      refine r_ic_ne (tgt := 120) B dX0_fits_113 (by decide) (fun cn2 => ?_) (fun cn2 => ?_)
      · have h := of cn2 h
        refine r_iconst (v := -1) B dX0_fits_120 (by decide) ?_
        exact r_iret B dX0_fits_121 h
      · have h := ot cn2 h
        refine r_iload_n (j := 2) B dX0_fits_116 rfl rfl ?_
        refine r_goto (tgt := 121) B dX0_fits_117 (by decide) ?_
        exact r_iret B dX0_fits_121 h
    · have h := of cn1 h
      refine r_iconst (v := 1) B dX0_fits_21 (by decide) ?_
      refine r_istore (L' := [(0, vr (some 0)), (1, vi x1), (2, vi x2), (3, vi x3), (4, vi (1 : Int32))]) B dX0_fits_22 (by decide) rfl rfl rfl ?_
      refine r_iconst (v := 0) B dX0_fits_24 (by decide) ?_
      refine r_istore (L' := [(0, vr (some 0)), (1, vi x1), (2, vi x2), (3, vi x3), (4, vi (1 : Int32)), (5, vi (0 : Int32))]) B dX0_fits_25 (by decide) rfl rfl rfl ?_
      exact w_X0_fits_27 B hS (F_X0_fits_15  n) ih FU s x1 x2 x3 (1 : Int32) (0 : Int32) h
set_option maxHeartbeats 4000000 in
noncomputable def F_X0_fits (s : St) (p0 : Int32) : Option (Int32 × St) := if (-1 : Int32) ≤ p0 then (bnd (F_X0_looksAtAll s) fun _ s3 => F_X0_fits_15 FU s3 p0 (0 : Int32) (0 : Int32)) else (some ((-1 : Int32), s))
set_option maxHeartbeats 4000000 in
theorem c_X0_fits {l : Launch} {E : EV} (hE : GE E) (hS : ∀ σ, eSk E σ ↔ SkC σ) {s s' : St} {r : Int32} {p0 : Int32} (h : F_X0_fits  s p0 = some (r, s')) : CT l E yX0_fits cX0_fits 6 (some .int) 247 13766 [vr (some 0), vi p0] s (some (vi r)) s' := by
  refine CT.start hE (by decide) rfl [(0, vr (some 0)), (1, vi p0)] rfl (fun X hX B => ?_)
  skip
  have B : FX X E cX0_fits 6 (some .int) "RoseThrow" "fits" (sn s) (ss s) 247 13766 := B
  unfold F_X0_fits at h
  refine r_iload_n (j := 1) B dX0_fits_0 rfl rfl ?_
  refine r_iconst (v := -1) B dX0_fits_1 (by decide) ?_
  refine r_ic_ge (tgt := 7) B dX0_fits_2 (by decide) (fun cn1 => ?_) (fun cn1 => ?_)
  · have h := ot cn1 h
    refine r_aload_n (j := 0) B dX0_fits_7 rfl rfl ?_
    obtain ⟨r2, s3, hc4, h⟩ := bnd_e h
    refine r_callV0 (As := []) (rest := []) B rfl rfl EX.same (c_X0_looksAtAll B.ge hS hc4) (cw_X0_looksAtAll rfl rfl) (fun z => RV.of 0 (by rw [((hS _).1 z).1 0 (by decide)]; rfl) rfl rfl qs36) q1338 q1340 rfl dX0_fits_8 ?_
    refine r_iconst (v := 0) B dX0_fits_11 (by decide) ?_
    refine r_istore_n (L' := [(0, vr (some 0)), (1, vi p0), (2, vi (0 : Int32))]) B dX0_fits_12 rfl (by decide) rfl rfl rfl ?_
    refine r_iconst (v := 0) B dX0_fits_13 (by decide) ?_
    refine r_istore_n (L' := [(0, vr (some 0)), (1, vi p0), (2, vi (0 : Int32)), (3, vi (0 : Int32))]) B dX0_fits_14 rfl (by decide) rfl rfl rfl ?_
    exact w_X0_fits_15 B hS FU s3 p0 (0 : Int32) (0 : Int32) h
  · have h := of cn1 h
    refine r_iconst (v := -1) B dX0_fits_5 (by decide) ?_
    exact r_iret B dX0_fits_6 h
set_option maxHeartbeats 4000000 in
theorem cw_X0_fits {X : CX} {fr lo : Nat} (h1 : Nat.ble (247 + 1) fr = true) (h2 : Nat.ble (25 + 13766) lo = true) : CW X fr lo yX0_fits cX0_fits 6 (some .int) 247 13766 1 := ⟨q1409, q126, ⟨by decide +kernel, by decide +kernel, by decide +kernel⟩, Nat.le_of_ble_eq_true h1, Nat.le_of_ble_eq_true h2⟩

set_option maxHeartbeats 4000000 in
noncomputable def F_X20_init (s : St) (this : Nat) (p0 : Option Nat) (p1 : Int32) : Option (Unit × St) := bnd (F_X6_init s this p0 p1) fun _ s2 => gd (okN s2 3) <| nam (newO s2 (18, 0) 3) fun s5 => bnd (F_J2_init s5 (sn s2) (2 : Int32)) fun _ s8 => gd (isK s8 this 17) <| nam (setR s8 this 7 (some (sn s2))) fun s11 => some ((), s11)
set_option maxHeartbeats 4000000 in
theorem c_X20_init {l : Launch} {E : EV} (hE : GE E) (h0 : ∀ σ, eSk E σ) {s s' : St} {r : Unit} {this : Nat} {p0 : Option Nat} {p1 : Int32} (h : F_X20_init  s this p0 p1 = some (r, s')) : CT l E yX20_init cX20_init 3 none 4 81 [vr (some this), vr p0, vi p1] s none s' := by
  refine CT.start hE (by decide) rfl [(0, vr (some this)), (1, vr p0), (2, vi p1)] rfl (fun X hX B => ?_)
  skip
  have B : FX X E cX20_init 3 none "RoseThrow$OrderReader" "<init>" (sn s) (ss s) 4 81 := B
  unfold F_X20_init at h
  refine r_aload_n (j := 0) B dX20_init_0 rfl rfl ?_
  refine r_aload_n (j := 1) B dX20_init_1 rfl rfl ?_
  refine r_iload_n (j := 2) B dX20_init_2 rfl rfl ?_
  obtain ⟨r1, s2, hc3, h⟩ := bnd_e h
  refine r_callI (As := [vr p0, vi p1]) (rest := []) B rfl rfl EX.same (c_X6_init B.ge h0 hc3) (cw_X6_init rfl rfl) rfl q1419 q700 rfl dX20_init_3 ?_
  refine r_aload_n (j := 0) B dX20_init_6 rfl rfl ?_
  obtain ⟨hg4, h⟩ := gd_e h
  obtain ⟨s5, e6, h⟩ := nam_e h
  refine r_new B e6 hg4 (c := 18) rfl (by decide) rfl in_J2 tyJ2_ok rfl q1420 q177 q130 (fun _ => h0 _) dX20_init_7 ?_
  refine r_dup B dX20_init_10 rfl ?_
  refine r_iconst (v := 2) B dX20_init_11 (by decide) ?_
  obtain ⟨r7, s8, hc9, h⟩ := bnd_e h
  refine r_callI (As := [vi (2 : Int32)]) (rest := [vr (some (sn s2)), vr (some this)]) B rfl rfl EX.same (c_J2_init B.ge h0 hc9) (cw_J2_init rfl rfl) rfl q1421 q179 rfl dX20_init_12 ?_
  obtain ⟨hg10, h⟩ := gd_e h
  obtain ⟨s11, e12, h⟩ := nam_e h
  refine pR17F (k := 7) B e12 rfl (fun _ => isK_e hg10) rfl q1422 rfl rfl rfl rfl (Or.inl ⟨_, rfl⟩) (fun _ => h0 _) dX20_init_15 ?_
  exact r_vret B dX20_init_18 h
set_option maxHeartbeats 4000000 in
theorem cw_X20_init {X : CX} {fr lo : Nat} (h1 : Nat.ble (4 + 1) fr = true) (h2 : Nat.ble (22 + 81) lo = true) : CW X fr lo yX20_init cX20_init 3 none 4 81 2 := ⟨q1418, q160, ⟨by decide +kernel, by decide +kernel, by decide +kernel⟩, Nat.le_of_ble_eq_true h1, Nat.le_of_ble_eq_true h2⟩

set_option maxHeartbeats 4000000 in
noncomputable def F_X0_tellsOrder_103 (k32 : St → Int32 → Option (Unit × St)) (s : St) (x4 : Int32) (z0 : Int64) (z1 : Int32) : Option (Unit × St) := gd (inb z1 15) <| nam (setL s 22 z1.toNatClampNeg z0) fun s2 => k32 s2 (x4 + (1))
set_option maxHeartbeats 4000000 in
theorem w_X0_tellsOrder_103 {X : CX} {E : EV} {a0 s' : St} {r : Unit} (B : FX X E cX0_tellsOrder 5 none "RoseThrow" "tellsOrder" (sn a0) (ss a0) 2 43) (hS : ∀ σ, eSk E σ ↔ SkC σ) (k32 : St → Int32 → Option (Unit × St)) (hk32 : ∀ (s : St) (x4 : Int32), k32 s x4 = some (r, s') → J X E (sn a0) (ss a0) 5 (QR X E a0 none s') s 32 [(0, vr (some 0)), (3, vr (some 22)), (4, vi x4)] []) (s : St) (x4 : Int32) (z0 : Int64) (z1 : Int32) (h : F_X0_tellsOrder_103  k32 s x4 z0 z1 = some (r, s')) : J X E (sn a0) (ss a0) 5 (QR X E a0 none s') s 103 [(0, vr (some 0)), (3, vr (some 22)), (4, vi x4)] [vl z0, vi z1, vr (some 22)] := by
  unfold F_X0_tellsOrder_103 at h
  obtain ⟨hg1, h⟩ := gd_e h
  obtain ⟨s2, e3, h⟩ := nam_e h
  refine r_last B e3 rfl (fun z => ((hS _).1 z).1 22 (by decide)) hg1 dX0_tellsOrder_103 ?_
  refine r_iinc (j := 2) (v := (x4 + (1))) (L' := [(0, vr (some 0)), (3, vr (some 22)), (4, vi (x4 + (1)))]) B dX0_tellsOrder_104 rfl rfl (by decide) rfl rfl rfl ?_
  refine r_goto (tgt := 32) B dX0_tellsOrder_107 (by decide) ?_
  exact hk32 s2 (x4 + (1)) h
set_option maxHeartbeats 4000000 in
noncomputable def F_X0_tellsOrder_70 (k32 : St → Int32 → Option (Unit × St)) (s : St) (x4 : Int32) (z0 : Int64) (z1 : Int32) : Option (Unit × St) := gd (inb z1 15) <| nam (setL s 22 z1.toNatClampNeg z0) fun s2 => bnd (F_X0_isCatcher s2 x4) fun r4 s5 => if r4 = 0 then (F_X0_tellsOrder_103 k32 s5 x4 (-1 : Int64) ((9 : Int32) + x4)) else (gd (inb x4 6) <| F_X0_tellsOrder_103 k32 s5 x4 (((si s5 7 x4.toNatClampNeg)).toInt64) ((9 : Int32) + x4))
set_option maxHeartbeats 4000000 in
theorem w_X0_tellsOrder_70 {X : CX} {E : EV} {a0 s' : St} {r : Unit} (B : FX X E cX0_tellsOrder 5 none "RoseThrow" "tellsOrder" (sn a0) (ss a0) 2 43) (hS : ∀ σ, eSk E σ ↔ SkC σ) (k32 : St → Int32 → Option (Unit × St)) (hk32 : ∀ (s : St) (x4 : Int32), k32 s x4 = some (r, s') → J X E (sn a0) (ss a0) 5 (QR X E a0 none s') s 32 [(0, vr (some 0)), (3, vr (some 22)), (4, vi x4)] []) (s : St) (x4 : Int32) (z0 : Int64) (z1 : Int32) (h : F_X0_tellsOrder_70  k32 s x4 z0 z1 = some (r, s')) : J X E (sn a0) (ss a0) 5 (QR X E a0 none s') s 70 [(0, vr (some 0)), (3, vr (some 22)), (4, vi x4)] [vl z0, vi z1, vr (some 22)] := by
  unfold F_X0_tellsOrder_70 at h
  obtain ⟨hg1, h⟩ := gd_e h
  obtain ⟨s2, e3, h⟩ := nam_e h
  refine r_last B e3 rfl (fun z => ((hS _).1 z).1 22 (by decide)) hg1 dX0_tellsOrder_70 ?_
  refine r_aload_n (j := 1) B dX0_tellsOrder_71 rfl rfl ?_
  refine r_bipush (v := 9) B dX0_tellsOrder_72 (by decide) ?_
  refine r_iload (j := 2) B dX0_tellsOrder_74 rfl ?_
  refine r_iadd B dX0_tellsOrder_76 ?_
  refine r_aload_n (j := 0) B dX0_tellsOrder_77 rfl rfl ?_
  refine r_iload (j := 2) B dX0_tellsOrder_78 rfl ?_
  obtain ⟨r4, s5, hc6, h⟩ := bnd_e h
  refine r_callVv (As := [vi x4]) (rest := [vi ((9 : Int32) + x4), vr (some 22)]) B rfl rfl EX.same (c_X0_isCatcher B.ge hS hc6) (cw_X0_isCatcher rfl rfl) (fun z => RV.of 0 (by rw [((hS _).1 z).1 0 (by decide)]; rfl) rfl rfl qs12) q654 q656 rfl dX0_tellsOrder_80 ?_
  refine r_if_eq (tgt := 100) B dX0_tellsOrder_83 (by decide) (fun cn7 => ?_) (fun cn7 => ?_)
  · have h := ot cn7 h
    refine r_ldc2 B dX0_tellsOrder_100 q575 ?_
    exact w_X0_tellsOrder_103 B hS k32 hk32 s5 x4 (-1 : Int64) ((9 : Int32) + x4) h
  · have h := of cn7 h
    refine r_aload_n (j := 0) B dX0_tellsOrder_86 rfl rfl ?_
    refine g0 (k := 2) B (vr (some 2)) rfl (fun z => by rw [((hS _).1 z).1 0 (by decide)]; rfl) rfl q358 rfl (fun z => by rw [((hS _).1 z).2 _ (List.mem_of_getElem? (i := 1) rfl)]; rfl) dX0_tellsOrder_87 ?_
    refine g1N (k := 4) B (vr (some 7)) rfl (fun z => by rw [((hS _).1 z).1 2 (by decide)]; rfl) rfl (lw_n q214 rfl) rfl (fun z => by rw [((hS _).1 z).2 _ (List.mem_of_getElem? (i := 21) rfl)]; rfl) dX0_tellsOrder_90 ?_
    refine r_iload (j := 2) B dX0_tellsOrder_93 rfl ?_
    obtain ⟨hg8, h⟩ := gd_e h
    refine r_iald B rfl (fun z => ((hS _).1 z).1 7 (by decide)) hg8 dX0_tellsOrder_95 ?_
    refine r_i2l B dX0_tellsOrder_96 ?_
    refine r_goto (tgt := 103) B dX0_tellsOrder_97 (by decide) ?_
    exact w_X0_tellsOrder_103 B hS k32 hk32 s5 x4 (((si s5 7 x4.toNatClampNeg)).toInt64) ((9 : Int32) + x4) h
set_option maxHeartbeats 4000000 in
noncomputable def F_X0_tellsOrder_32 : Nat → St → Int32 → Option (Unit × St)
  | 0 => fun _ _ => none
  | n + 1 => fun s x4 => if (6 : Int32) ≤ x4 then (some ((), s)) else (bnd (F_X0_isCatcher s x4) fun r2 s3 => if r2 = 0 then (F_X0_tellsOrder_70 (F_X0_tellsOrder_32  n) s3 x4 (-1 : Int64) ((3 : Int32) + x4)) else (gd (inb x4 6) <| F_X0_tellsOrder_70 (F_X0_tellsOrder_32  n) s3 x4 (((si s3 3 x4.toNatClampNeg)).toInt64) ((3 : Int32) + x4)))
set_option maxHeartbeats 4000000 in
theorem w_X0_tellsOrder_32 {X : CX} {E : EV} {a0 s' : St} {r : Unit} (B : FX X E cX0_tellsOrder 5 none "RoseThrow" "tellsOrder" (sn a0) (ss a0) 2 43) (hS : ∀ σ, eSk E σ ↔ SkC σ) : ∀ (n : Nat) (s : St) (x4 : Int32), F_X0_tellsOrder_32   n s x4 = some (r, s') → J X E (sn a0) (ss a0) 5 (QR X E a0 none s') s 32 [(0, vr (some 0)), (3, vr (some 22)), (4, vi x4)] [] := by
  intro n
  induction n with
  | zero => intro s x4 h; exact absurd (show (none : Option (Unit × St)) = _ from h) (by simp)
  | succ n ih =>
    intro s x4 h
    rw [F_X0_tellsOrder_32] at h
    refine r_iload (j := 2) B dX0_tellsOrder_32 rfl ?_
    refine r_bipush (v := 6) B dX0_tellsOrder_34 (by decide) ?_
    refine r_ic_ge (tgt := 110) B dX0_tellsOrder_36 (by decide) (fun cn1 => ?_) (fun cn1 => ?_)
    · have h := ot cn1 h
      exact r_vret B dX0_tellsOrder_110 h
    · have h := of cn1 h
      refine r_aload_n (j := 1) B dX0_tellsOrder_39 rfl rfl ?_
      refine r_iconst (v := 3) B dX0_tellsOrder_40 (by decide) ?_
      refine r_iload (j := 2) B dX0_tellsOrder_41 rfl ?_
      refine r_iadd B dX0_tellsOrder_43 ?_
      refine r_aload_n (j := 0) B dX0_tellsOrder_44 rfl rfl ?_
      refine r_iload (j := 2) B dX0_tellsOrder_45 rfl ?_
      obtain ⟨r2, s3, hc4, h⟩ := bnd_e h
      refine r_callVv (As := [vi x4]) (rest := [vi ((3 : Int32) + x4), vr (some 22)]) B rfl rfl EX.same (c_X0_isCatcher B.ge hS hc4) (cw_X0_isCatcher rfl rfl) (fun z => RV.of 0 (by rw [((hS _).1 z).1 0 (by decide)]; rfl) rfl rfl qs12) q654 q656 rfl dX0_tellsOrder_47 ?_
      refine r_if_eq (tgt := 67) B dX0_tellsOrder_50 (by decide) (fun cn5 => ?_) (fun cn5 => ?_)
      · have h := ot cn5 h
        refine r_ldc2 B dX0_tellsOrder_67 q575 ?_
        exact w_X0_tellsOrder_70 B hS (F_X0_tellsOrder_32  n) ih s3 x4 (-1 : Int64) ((3 : Int32) + x4) h
      · have h := of cn5 h
        refine r_aload_n (j := 0) B dX0_tellsOrder_53 rfl rfl ?_
        refine g0 (k := 2) B (vr (some 2)) rfl (fun z => by rw [((hS _).1 z).1 0 (by decide)]; rfl) rfl q358 rfl (fun z => by rw [((hS _).1 z).2 _ (List.mem_of_getElem? (i := 1) rfl)]; rfl) dX0_tellsOrder_54 ?_
        refine g1N (k := 0) B (vr (some 3)) rfl (fun z => by rw [((hS _).1 z).1 2 (by decide)]; rfl) rfl (lw_n q206 rfl) rfl (fun z => by rw [((hS _).1 z).2 _ (List.mem_of_getElem? (i := 17) rfl)]; rfl) dX0_tellsOrder_57 ?_
        refine r_iload (j := 2) B dX0_tellsOrder_60 rfl ?_
        obtain ⟨hg6, h⟩ := gd_e h
        refine r_iald B rfl (fun z => ((hS _).1 z).1 3 (by decide)) hg6 dX0_tellsOrder_62 ?_
        refine r_i2l B dX0_tellsOrder_63 ?_
        refine r_goto (tgt := 70) B dX0_tellsOrder_64 (by decide) ?_
        exact w_X0_tellsOrder_70 B hS (F_X0_tellsOrder_32  n) ih s3 x4 (((si s3 3 x4.toNatClampNeg)).toInt64) ((3 : Int32) + x4) h
set_option maxHeartbeats 4000000 in
noncomputable def F_X0_tellsOrder (s : St) (p0 : Int32) (p1 : Int32) : Option (Unit × St) := gd (inb (0 : Int32) 15) <| nam (setL s 22 (0 : Int32).toNatClampNeg (((si s 2 8)).toInt64)) fun s2 => gd (inb (1 : Int32) 15) <| nam (setL s2 22 (1 : Int32).toNatClampNeg ((p0).toInt64)) fun s5 => gd (inb (2 : Int32) 15) <| nam (setL s5 22 (2 : Int32).toNatClampNeg ((p1).toInt64)) fun s8 => F_X0_tellsOrder_32 FU s8 (0 : Int32)
set_option maxHeartbeats 4000000 in
theorem c_X0_tellsOrder {l : Launch} {E : EV} (hE : GE E) (hS : ∀ σ, eSk E σ ↔ SkC σ) {s s' : St} {r : Unit} {p0 : Int32} {p1 : Int32} (h : F_X0_tellsOrder  s p0 p1 = some (r, s')) : CT l E yX0_tellsOrder cX0_tellsOrder 5 none 2 43 [vr (some 0), vi p0, vi p1] s none s' := by
  refine CT.start hE (by decide) rfl [(0, vr (some 0)), (1, vi p0), (2, vi p1)] rfl (fun X hX B => ?_)
  skip
  have B : FX X E cX0_tellsOrder 5 none "RoseThrow" "tellsOrder" (sn s) (ss s) 2 43 := B
  unfold F_X0_tellsOrder at h
  refine r_aload_n (j := 0) B dX0_tellsOrder_0 rfl rfl ?_
  refine g0 (k := 16) B (vr (some 20)) rfl (fun z => by rw [((hS _).1 z).1 0 (by decide)]; rfl) rfl q372 rfl (fun z => by rw [((hS _).1 z).2 _ (List.mem_of_getElem? (i := 10) rfl)]; rfl) dX0_tellsOrder_1 ?_
  refine g2N (k := 1) B (vr (some 22)) rfl (fun z => by rw [((hS _).1 z).1 20 (by decide)]; rfl) rfl (lw_n q322 rfl) rfl (fun z => by rw [((hS _).1 z).2 _ (List.mem_of_getElem? (i := 26) rfl)]; rfl) dX0_tellsOrder_4 ?_
  refine r_astore_n (L' := [(0, vr (some 0)), (1, vi p0), (2, vi p1), (3, vr (some 22))]) B dX0_tellsOrder_7 rfl (by decide) rfl rfl rfl ?_
  refine r_aload_n (j := 3) B dX0_tellsOrder_8 rfl rfl ?_
  refine r_iconst (v := 0) B dX0_tellsOrder_9 (by decide) ?_
  refine r_aload_n (j := 0) B dX0_tellsOrder_10 rfl rfl ?_
  refine g0 (k := 2) B (vr (some 2)) rfl (fun z => by rw [((hS _).1 z).1 0 (by decide)]; rfl) rfl q358 rfl (fun z => by rw [((hS _).1 z).2 _ (List.mem_of_getElem? (i := 1) rfl)]; rfl) dX0_tellsOrder_11 ?_
  refine g1N (k := 8) B (vi (si s 2 8)) rfl (fun z => by rw [((hS _).1 z).1 2 (by decide)]; rfl) rfl (lw_n q222 rfl) rfl (fun _ => rfl) dX0_tellsOrder_14 ?_
  refine r_i2l B dX0_tellsOrder_17 ?_
  obtain ⟨hg1, h⟩ := gd_e h
  obtain ⟨s2, e3, h⟩ := nam_e h
  refine r_last B e3 rfl (fun z => ((hS _).1 z).1 22 (by decide)) hg1 dX0_tellsOrder_18 ?_
  refine r_aload_n (j := 3) B dX0_tellsOrder_19 rfl rfl ?_
  refine r_iconst (v := 1) B dX0_tellsOrder_20 (by decide) ?_
  refine r_iload_n (j := 1) B dX0_tellsOrder_21 rfl rfl ?_
  refine r_i2l B dX0_tellsOrder_22 ?_
  obtain ⟨hg4, h⟩ := gd_e h
  obtain ⟨s5, e6, h⟩ := nam_e h
  refine r_last B e6 rfl (fun z => ((hS _).1 z).1 22 (by decide)) hg4 dX0_tellsOrder_23 ?_
  refine r_aload_n (j := 3) B dX0_tellsOrder_24 rfl rfl ?_
  refine r_iconst (v := 2) B dX0_tellsOrder_25 (by decide) ?_
  refine r_iload_n (j := 2) B dX0_tellsOrder_26 rfl rfl ?_
  refine r_i2l B dX0_tellsOrder_27 ?_
  obtain ⟨hg7, h⟩ := gd_e h
  obtain ⟨s8, e9, h⟩ := nam_e h
  refine r_last B e9 rfl (fun z => ((hS _).1 z).1 22 (by decide)) hg7 dX0_tellsOrder_28 ?_
  refine r_iconst (v := 0) B dX0_tellsOrder_29 (by decide) ?_
  refine r_istore (L' := [(0, vr (some 0)), (1, vi p0), (2, vi p1), (3, vr (some 22)), (4, vi (0 : Int32))]) B dX0_tellsOrder_30 (by decide) rfl rfl rfl ?_
  refine r_pick [0, 3, 4] (L' := [(0, vr (some 0)), (3, vr (some 22)), (4, vi (0 : Int32))]) rfl ?_
  exact w_X0_tellsOrder_32 B hS FU s8 (0 : Int32) h
set_option maxHeartbeats 4000000 in
theorem cw_X0_tellsOrder {X : CX} {fr lo : Nat} (h1 : Nat.ble (2 + 1) fr = true) (h2 : Nat.ble (24 + 43) lo = true) : CW X fr lo yX0_tellsOrder cX0_tellsOrder 5 none 2 43 2 := ⟨q1438, q126, ⟨by decide +kernel, by decide +kernel, by decide +kernel⟩, Nat.le_of_ble_eq_true h1, Nat.le_of_ble_eq_true h2⟩

set_option maxHeartbeats 4000000 in
noncomputable def F_X18_isNow_18 (s : St)  : Option (Int32 × St) := some ((1 : Int32), s)
set_option maxHeartbeats 4000000 in
theorem w_X18_isNow_18 {X : CX} {E : EV} {a0 s' : St} {r : Int32} (B : FX X E cX18_isNow 3 (some .boolean) "RoseThrow$Order" "isNow" (sn a0) (ss a0) 240 13600) (ht : (xC X).exceptionTable.toList = tableOf [(0, 23, 24, 28)]) (h0 : ∀ σ, eSk E σ) (s : St)  (h : F_X18_isNow_18   s  = some (r, s')) : J X E (sn a0) (ss a0) 3 (QR X E a0 (some (vi r)) s') s 18 [] [] := by
  unfold F_X18_isNow_18 at h
  refine r_iconst (v := 1) B dX18_isNow_18 (by decide) ?_
  refine r_goto (tgt := 23) B dX18_isNow_19 (by decide) ?_
  exact r_zret B dX18_isNow_23 (by decide) h
set_option maxHeartbeats 4000000 in
noncomputable def F_X18_isNow (s : St) (this : Nat) (p0 : Option Nat) : Option (Int32 × St) := gd (isK s this 15) <| if (sr s this 4) = none then (F_X18_isNow_18 s) else (gd (isK s this 15) <| drf (sr s this 4) fun a4 => bnx (F_testD 40 s a4 p0) (fun b9 s7 => some ((0 : Int32), s7)) <| fun r6 s7 => if r6 = 0 then (some ((0 : Int32), s7)) else (F_X18_isNow_18 s7))
set_option maxHeartbeats 4000000 in
theorem c_X18_isNow {l : Launch} {E : EV} (hE : GE E) (h0 : ∀ σ, eSk E σ) {s s' : St} {r : Int32} {this : Nat} {p0 : Option Nat} (h : F_X18_isNow  s this p0 = some (r, s')) : CTW l E yX18_isNow cX18_isNow 3 (some .boolean) [(0, 23, 24, 28)] 240 13600 [vr (some this), vr p0] s (some (vi r)) s' := by
  refine CT.startW hE (by decide) rfl [(0, vr (some this)), (1, vr p0)] rfl (fun X hX B ht => ?_)
  skip
  have B : FX X E cX18_isNow 3 (some .boolean) "RoseThrow$Order" "isNow" (sn s) (ss s) 240 13600 := B
  unfold F_X18_isNow at h
  refine r_aload_n (j := 0) B dX18_isNow_0 rfl rfl ?_
  obtain ⟨hg1, h⟩ := gd_e h
  refine g15 (k := 4) B (vr (sr s this 4)) rfl (fun _ => isK_e hg1) rfl q1127 rfl (fun _ => rfl) dX18_isNow_1 ?_
  refine r_ifnull (tgt := 18) B dX18_isNow_4 (by decide) (fun cn2 => ?_) (fun cn2 => ?_)
  · have h := ot cn2 h
    refine r_pick [] (L' := []) rfl ?_
    exact w_X18_isNow_18 B ht h0 s h
  · have h := of cn2 h
    refine r_aload_n (j := 0) B dX18_isNow_7 rfl rfl ?_
    obtain ⟨hg3, h⟩ := gd_e h
    refine g15 (k := 4) B (vr (sr s this 4)) rfl (fun _ => isK_e hg3) rfl q1127 rfl (fun _ => rfl) dX18_isNow_8 ?_
    refine r_aload_n (j := 1) B dX18_isNow_11 rfl rfl ?_
    obtain ⟨a4, ea5, h⟩ := drf_e h
    rcases bnx_e h with ⟨b9, s7, hc8, h⟩ | ⟨r6, s7, hc8, h⟩
    · refine r_xDx (owner := "RoseThrow$Test") (As := [vr p0]) (rest := []) B rfl ea5 EX.same (d_test B.ge h0 40 _ _ _ _ _ hc8) (by decide) (by decide) q1444 q617 (lw_n q616 rfl) (by decide) rfl dX18_isNow_12 (fun hk => ?_)
      refine r_catch B ht [] (⟨0, 23, 24, 28⟩ : ExceptionTableEntry) [] rfl (fun z hz => by cases hz) (by decide) (by decide) hk rfl (by decide) q1443 (lw_n q259 rfl) ?_
      refine r_astore_n (L' := [(0, vr (some this)), (1, vr p0), (2, vr (some b9))]) B dX18_isNow_24 rfl (by decide) rfl rfl rfl ?_
      refine r_iconst (v := 0) B dX18_isNow_25 (by decide) ?_
      exact r_zret B dX18_isNow_26 (by decide) h
    refine r_xDn (owner := "RoseThrow$Test") (As := [vr p0]) (rest := []) B rfl ea5 EX.same (d_test B.ge h0 40 _ _ _ _ _ hc8) (by decide) (by decide) q1444 q617 (lw_n q616 rfl) (by decide) rfl dX18_isNow_12 ?_
    refine r_if_eq (tgt := 22) B dX18_isNow_15 (by decide) (fun cn10 => ?_) (fun cn10 => ?_)
    · have h := ot cn10 h
      refine r_iconst (v := 0) B dX18_isNow_22 (by decide) ?_
      exact r_zret B dX18_isNow_23 (by decide) h
    · have h := of cn10 h
      refine r_pick [] (L' := []) rfl ?_
      exact w_X18_isNow_18 B ht h0 s7 h
set_option maxHeartbeats 4000000 in
theorem cw_X18_isNow {X : CX} {fr lo : Nat} (h1 : Nat.ble (240 + 1) fr = true) (h2 : Nat.ble (22 + 13600) lo = true) : CWW X fr lo yX18_isNow cX18_isNow 3 (some .boolean) [(0, 23, 24, 28)] 240 13600 1 := ⟨q1442, q158, ⟨by decide +kernel, by decide +kernel, by decide +kernel⟩, Nat.le_of_ble_eq_true h1, Nat.le_of_ble_eq_true h2⟩

set_option maxHeartbeats 4000000 in
noncomputable def F_X18_told_22 (s : St)  : Option (Int32 × St) := some ((1000000 : Int32), s)
set_option maxHeartbeats 4000000 in
theorem w_X18_told_22 {X : CX} {E : EV} {a0 s' : St} {r : Int32} (B : FX X E cX18_told 4 (some .int) "RoseThrow$Order" "told" (sn a0) (ss a0) 164 11560) (ht : (xC X).exceptionTable.toList = tableOf [(0, 29, 30, 28)]) (h0 : ∀ σ, eSk E σ) (s : St)  (h : F_X18_told_22   s  = some (r, s')) : J X E (sn a0) (ss a0) 4 (QR X E a0 (some (vi r)) s') s 22 [] [] := by
  unfold F_X18_told_22 at h
  refine r_ldc B dX18_told_22 q1455 ?_
  refine r_goto (tgt := 29) B dX18_told_24 (by decide) ?_
  exact r_iret B dX18_told_29 h
set_option maxHeartbeats 4000000 in
noncomputable def F_X18_told (s : St) (p0 : Option Nat) (p1 : Option Nat) : Option (Int32 × St) := drf p0 fun a1 => bnx (F_sumD 64 s a1 p1) (fun b6 s4 => some ((1000000 : Int32), s4)) <| fun r3 s4 => if r3 < (-1 : Int64) then (F_X18_told_22 s4) else (if r3 < (1000000 : Int64) then (some (((r3).toInt32), s4)) else (F_X18_told_22 s4))
set_option maxHeartbeats 4000000 in
theorem c_X18_told {l : Launch} {E : EV} (hE : GE E) (h0 : ∀ σ, eSk E σ) {s s' : St} {r : Int32} {p0 : Option Nat} {p1 : Option Nat} (h : F_X18_told  s p0 p1 = some (r, s')) : CTW l E yX18_told cX18_told 4 (some .int) [(0, 29, 30, 28)] 164 11560 [vr p0, vr p1] s (some (vi r)) s' := by
  refine CT.startW hE (by decide) rfl [(0, vr p0), (1, vr p1)] rfl (fun X hX B ht => ?_)
  skip
  have B : FX X E cX18_told 4 (some .int) "RoseThrow$Order" "told" (sn s) (ss s) 164 11560 := B
  unfold F_X18_told at h
  refine r_aload_n (j := 0) B dX18_told_0 rfl rfl ?_
  refine r_aload_n (j := 1) B dX18_told_1 rfl rfl ?_
  obtain ⟨a1, ea2, h⟩ := drf_e h
  rcases bnx_e h with ⟨b6, s4, hc5, h⟩ | ⟨r3, s4, hc5, h⟩
  · refine r_xDx (owner := "RoseThrow$Sum") (As := [vr p1]) (rest := []) B rfl ea2 EX.same (d_sum B.ge h0 64 _ _ _ _ _ hc5) (by decide) (by decide) q1452 q623 (lw_n q622 rfl) (by decide) rfl dX18_told_2 (fun hk => ?_)
    refine r_catch B ht [] (⟨0, 29, 30, 28⟩ : ExceptionTableEntry) [] rfl (fun z hz => by cases hz) (by decide) (by decide) hk rfl (by decide) q1443 (lw_n q259 rfl) ?_
    refine r_astore_n (L' := [(0, vr p0), (1, vr p1), (2, vr (some b6))]) B dX18_told_30 rfl (by decide) rfl rfl rfl ?_
    refine r_ldc B dX18_told_31 q1455 ?_
    exact r_iret B dX18_told_33 h
  refine r_xDn (owner := "RoseThrow$Sum") (As := [vr p1]) (rest := []) B rfl ea2 EX.same (d_sum B.ge h0 64 _ _ _ _ _ hc5) (by decide) (by decide) q1452 q623 (lw_n q622 rfl) (by decide) rfl dX18_told_2 ?_
  refine r_lstore_n (L' := [(0, vr p0), (1, vr p1), (2, vl r3)]) B dX18_told_5 rfl (by decide) rfl rfl rfl ?_
  refine r_lload_n (j := 2) B dX18_told_6 rfl rfl ?_
  refine r_ldc2 B dX18_told_7 q1453 ?_
  refine r_lcmp B dX18_told_10 ?_
  refine r_if_lt (tgt := 22) B dX18_told_11 (by decide) (fun cn7 => ?_) (fun cn7 => ?_)
  · have h := ot (lc_lt.mp cn7) h
    refine r_pick [] (L' := []) rfl ?_
    exact w_X18_told_22 B ht h0 s4 h
  · have h := of (fun z => cn7 (lc_lt.mpr z)) h
    refine r_lload_n (j := 2) B dX18_told_14 rfl rfl ?_
    refine r_ldc2 B dX18_told_15 q1454 ?_
    refine r_lcmp B dX18_told_18 ?_
    refine r_if_lt (tgt := 27) B dX18_told_19 (by decide) (fun cn8 => ?_) (fun cn8 => ?_)
    · have h := ot (lc_lt.mp cn8) h
      refine r_lload_n (j := 2) B dX18_told_27 rfl rfl ?_
      refine r_l2i B dX18_told_28 ?_
      exact r_iret B dX18_told_29 h
    · have h := of (fun z => cn8 (lc_lt.mpr z)) h
      refine r_pick [] (L' := []) rfl ?_
      exact w_X18_told_22 B ht h0 s4 h
set_option maxHeartbeats 4000000 in
theorem cw_X18_told {X : CX} {fr lo : Nat} (h1 : Nat.ble (164 + 1) fr = true) (h2 : Nat.ble (23 + 11560) lo = true) : CWW X fr lo yX18_told cX18_told 4 (some .int) [(0, 29, 30, 28)] 164 11560 2 := ⟨q1451, q158, ⟨by decide +kernel, by decide +kernel, by decide +kernel⟩, Nat.le_of_ble_eq_true h1, Nat.le_of_ble_eq_true h2⟩

set_option maxHeartbeats 4000000 in
noncomputable def F_X0_runs (s : St) (p0 : Option Nat) : Option (Int32 × St) := drf p0 fun a1 => gd (isK s a1 15) <| if (si s a1 0) = (1 : Int32) then (bnd (F_X0_rushesKept s) fun r29 s30 => some (r29, s30)) else (drf p0 fun a5 => gd (isK s a5 15) <| bnd (F_X18_told s (sr s a5 1) (some 20)) fun r8 s9 => gp (SkC s9) <| drf p0 fun a12 => gd (isK s9 a12 15) <| bnd (F_X18_told s9 (sr s9 a12 2) (some 20)) fun r15 s16 => gp (SkC s16) <| drf p0 fun a19 => gd (isK s16 a19 15) <| if (si s16 a19 0) = 0 then (bnd (F_X0_goesKept s16 r8 r15) fun r26 s27 => some (r26, s27)) else (bnd (F_X0_believesKept s16 r8 r15) fun r23 s24 => some (r23, s24)))
set_option maxHeartbeats 4000000 in
theorem c_X0_runs {l : Launch} {E : EV} (hE : GE E) (hS : ∀ σ, eSk E σ ↔ SkC σ) {s s' : St} {r : Int32} {p0 : Option Nat} (h : F_X0_runs  s p0 = some (r, s')) : CT l E yX0_runs cX0_runs 4 (some .int) 248 13786 [vr (some 0), vr p0] s (some (vi r)) s' := by
  refine CT.start hE (by decide) rfl [(0, vr (some 0)), (1, vr p0)] rfl (fun X hX B => ?_)
  skip
  have B : FX X E cX0_runs 4 (some .int) "RoseThrow" "runs" (sn s) (ss s) 248 13786 := B
  unfold F_X0_runs at h
  refine r_aload_n (j := 1) B dX0_runs_0 rfl rfl ?_
  obtain ⟨a1, ea2, h⟩ := drf_e h
  obtain ⟨hg3, h⟩ := gd_e h
  refine g15N (k := 0) B (vi (si s a1 0)) ea2 (fun _ => isK_e hg3) rfl (lw_n q1119 rfl) rfl (fun _ => rfl) dX0_runs_1 ?_
  refine r_iconst (v := 1) B dX0_runs_4 (by decide) ?_
  refine r_ic_ne (tgt := 13) B dX0_runs_5 (by decide) (fun cn4 => ?_) (fun cn4 => ?_)
  · have h := of cn4 h
    refine r_aload_n (j := 1) B dX0_runs_13 rfl rfl ?_
    obtain ⟨a5, ea6, h⟩ := drf_e h
    obtain ⟨hg7, h⟩ := gd_e h
    refine g15N (k := 1) B (vr (sr s a5 1)) ea6 (fun _ => isK_e hg7) rfl (lw_n q1121 rfl) rfl (fun _ => rfl) dX0_runs_14 ?_
    refine r_aload_n (j := 0) B dX0_runs_17 rfl rfl ?_
    refine g0 (k := 16) B (vr (some 20)) rfl (fun z => by rw [((hS _).1 z).1 0 (by decide)]; rfl) rfl q372 rfl (fun z => by rw [((hS _).1 z).2 _ (List.mem_of_getElem? (i := 10) rfl)]; rfl) dX0_runs_18 ?_
    obtain ⟨r8, s9, hc10, h⟩ := bnd_e h
    obtain ⟨hg11, h⟩ := gp_e h
    refine r_callSW (As := [vr (sr s a5 1), vr (some 20)]) (rest := []) B rfl (EX.noSk (fun _ => (hS _).2 hg11)) (c_X18_told B.ge.noSk (fun _ => trivial) hc10) (cw_X18_told rfl rfl) q1449 q1450 rfl dX0_runs_21 ?_
    refine r_istore_n (L' := [(0, vr (some 0)), (1, vr p0), (2, vi r8)]) B dX0_runs_24 rfl (by decide) rfl rfl rfl ?_
    refine r_aload_n (j := 1) B dX0_runs_25 rfl rfl ?_
    obtain ⟨a12, ea13, h⟩ := drf_e h
    obtain ⟨hg14, h⟩ := gd_e h
    refine g15N (k := 2) B (vr (sr s9 a12 2)) ea13 (fun _ => isK_e hg14) rfl (lw_n q1123 rfl) rfl (fun _ => rfl) dX0_runs_26 ?_
    refine r_aload_n (j := 0) B dX0_runs_29 rfl rfl ?_
    refine g0 (k := 16) B (vr (some 20)) rfl (fun z => by rw [((hS _).1 z).1 0 (by decide)]; rfl) rfl q372 rfl (fun z => by rw [((hS _).1 z).2 _ (List.mem_of_getElem? (i := 10) rfl)]; rfl) dX0_runs_30 ?_
    obtain ⟨r15, s16, hc17, h⟩ := bnd_e h
    obtain ⟨hg18, h⟩ := gp_e h
    refine r_callSW (As := [vr (sr s9 a12 2), vr (some 20)]) (rest := []) B rfl (EX.noSk (fun _ => (hS _).2 hg18)) (c_X18_told B.ge.noSk (fun _ => trivial) hc17) (cw_X18_told rfl rfl) q1449 q1450 rfl dX0_runs_33 ?_
    refine r_istore_n (L' := [(0, vr (some 0)), (1, vr p0), (2, vi r8), (3, vi r15)]) B dX0_runs_36 rfl (by decide) rfl rfl rfl ?_
    refine r_aload_n (j := 1) B dX0_runs_37 rfl rfl ?_
    obtain ⟨a19, ea20, h⟩ := drf_e h
    obtain ⟨hg21, h⟩ := gd_e h
    refine g15N (k := 0) B (vi (si s16 a19 0)) ea20 (fun _ => isK_e hg21) rfl (lw_n q1119 rfl) rfl (fun _ => rfl) dX0_runs_38 ?_
    refine r_if_ne (tgt := 53) B dX0_runs_41 (by decide) (fun cn22 => ?_) (fun cn22 => ?_)
    · have h := of cn22 h
      refine r_aload_n (j := 0) B dX0_runs_53 rfl rfl ?_
      refine r_iload_n (j := 2) B dX0_runs_54 rfl rfl ?_
      refine r_iload_n (j := 3) B dX0_runs_55 rfl rfl ?_
      obtain ⟨r23, s24, hc25, h⟩ := bnd_e h
      refine r_callVv (As := [vi r8, vi r15]) (rest := []) B rfl rfl EX.same (c_X0_believesKept B.ge hS hc25) (cw_X0_believesKept rfl rfl) (fun z => RV.of 0 (by rw [((hS _).1 z).1 0 (by decide)]; rfl) rfl rfl qs23) q1226 q1228 rfl dX0_runs_56 ?_
      exact r_iret B dX0_runs_59 h
    · have h := ot cn22 h
      refine r_aload_n (j := 0) B dX0_runs_44 rfl rfl ?_
      refine r_iload_n (j := 2) B dX0_runs_45 rfl rfl ?_
      refine r_iload_n (j := 3) B dX0_runs_46 rfl rfl ?_
      obtain ⟨r26, s27, hc28, h⟩ := bnd_e h
      refine r_callVv (As := [vi r8, vi r15]) (rest := []) B rfl rfl EX.same (c_X0_goesKept B.ge hS hc28) (cw_X0_goesKept rfl rfl) (fun z => RV.of 0 (by rw [((hS _).1 z).1 0 (by decide)]; rfl) rfl rfl qs20) q1209 q1211 rfl dX0_runs_47 ?_
      refine r_goto (tgt := 59) B dX0_runs_50 (by decide) ?_
      exact r_iret B dX0_runs_59 h
  · have h := ot cn4 h
    refine r_aload_n (j := 0) B dX0_runs_8 rfl rfl ?_
    obtain ⟨r29, s30, hc31, h⟩ := bnd_e h
    refine r_callVv (As := []) (rest := []) B rfl rfl EX.same (c_X0_rushesKept B.ge hS hc31) (cw_X0_rushesKept rfl rfl) (fun z => RV.of 0 (by rw [((hS _).1 z).1 0 (by decide)]; rfl) rfl rfl qs24) q1234 q1236 rfl dX0_runs_9 ?_
    exact r_iret B dX0_runs_12 h
set_option maxHeartbeats 4000000 in
theorem cw_X0_runs {X : CX} {fr lo : Nat} (h1 : Nat.ble (248 + 1) fr = true) (h2 : Nat.ble (23 + 13786) lo = true) : CW X fr lo yX0_runs cX0_runs 4 (some .int) 248 13786 1 := ⟨q1448, q126, ⟨by decide +kernel, by decide +kernel, by decide +kernel⟩, Nat.le_of_ble_eq_true h1, Nat.le_of_ble_eq_true h2⟩

