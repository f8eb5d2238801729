set_option maxRecDepth 100000
set_option maxHeartbeats 4000000 in
noncomputable def F_X5_behindTest_66 (s : St) (z0 : Int32) : Option (Int32 × St) := bnd (F_X5_emit s z0 (0 : Int32)) fun _ s2 => bnd (F_X5_next s2) fun _ s5 => some ((0 : Int32), s5)
set_option maxHeartbeats 4000000 in
theorem w_X5_behindTest_66 {X : CX} {E : EV} {a0 s' : St} {r : Int32} (B : FX X E cX5_behindTest 2 (some .int) "RoseThrowModel" "behindTest" (sn a0) (ss a0) 3 61) (hS : ∀ σ, eSk E σ → SkM σ) (s : St) (z0 : Int32) (h : F_X5_behindTest_66   s z0 = some (r, s')) : J X E (sn a0) (ss a0) 2 (QR X E a0 (some (vi r)) s') s 66 [(0, vr (some 0))] [vi z0, vr (some 0)] := by
  unfold F_X5_behindTest_66 at h
  refine r_iconst (v := 0) B dX5_behindTest_66 (by decide) ?_
  obtain ⟨r1, s2, hc3, h⟩ := bnd_e h
  refine r_callV0 (As := [vi z0, vi (0 : Int32)]) (rest := []) B rfl rfl EX.same (c_X5_emit B.ge hS hc3) (cw_X5_emit rfl rfl) (fun z => RV.of 5 ((fun z => by rw [(hS _ z).1 0 (by decide)]; rfl) z) rfl rfl qs80) q1937 q1939 rfl dX5_behindTest_67 ?_
  refine r_aload_n (j := 0) B dX5_behindTest_70 rfl rfl ?_
  obtain ⟨r4, s5, hc6, h⟩ := bnd_e h
  refine r_callV0 (As := []) (rest := []) B rfl rfl EX.same (c_X5_next B.ge hS hc6) (cw_X5_next rfl rfl) (fun z => RV.of 5 ((fun z => by rw [(hS _ z).1 0 (by decide)]; rfl) z) rfl rfl qs67) q1872 q1874 rfl dX5_behindTest_71 ?_
  refine r_iconst (v := 0) B dX5_behindTest_74 (by decide) ?_
  exact r_iret B dX5_behindTest_75 h
set_option maxHeartbeats 4000000 in
noncomputable def F_X5_behindTest_47 (s : St) (x1 : Int32) (z0 : Int32) : Option (Int32 × St) := bnd (F_X5_push s z0 (si s 0 24)) fun _ s2 => if x1 = 0 then (F_X5_behindTest_66 s2 (30 : Int32)) else (F_X5_behindTest_66 s2 (29 : Int32))
set_option maxHeartbeats 4000000 in
theorem w_X5_behindTest_47 {X : CX} {E : EV} {a0 s' : St} {r : Int32} (B : FX X E cX5_behindTest 2 (some .int) "RoseThrowModel" "behindTest" (sn a0) (ss a0) 3 61) (hS : ∀ σ, eSk E σ → SkM σ) (s : St) (x1 : Int32) (z0 : Int32) (h : F_X5_behindTest_47   s x1 z0 = some (r, s')) : J X E (sn a0) (ss a0) 2 (QR X E a0 (some (vi r)) s') s 47 [(0, vr (some 0)), (1, vi x1)] [vi z0, vr (some 0)] := by
  unfold F_X5_behindTest_47 at h
  refine r_aload_n (j := 0) B dX5_behindTest_47 rfl rfl ?_
  refine g5 (k := 24) B (vi (si s 0 24)) rfl (fun z => by rw [(hS _ z).1 0 (by decide)]; rfl) rfl q1541 rfl (fun _ => rfl) dX5_behindTest_48 ?_
  obtain ⟨r1, s2, hc3, h⟩ := bnd_e h
  refine r_callV0 (As := [vi z0, vi (si s 0 24)]) (rest := []) B rfl rfl EX.same (c_X5_push B.ge hS hc3) (cw_X5_push rfl rfl) (fun z => RV.of 5 ((fun z => by rw [(hS _ z).1 0 (by decide)]; rfl) z) rfl rfl qs73) q1908 q1910 rfl dX5_behindTest_51 ?_
  refine r_aload_n (j := 0) B dX5_behindTest_54 rfl rfl ?_
  refine r_iload_n (j := 1) B dX5_behindTest_55 rfl rfl ?_
  refine r_if_eq (tgt := 64) B dX5_behindTest_56 (by decide) (fun cn4 => ?_) (fun cn4 => ?_)
  · have h := ot cn4 h
    refine r_bipush (v := 30) B dX5_behindTest_64 (by decide) ?_
    refine r_pick [0] (L' := [(0, vr (some 0))]) rfl ?_
    exact w_X5_behindTest_66 B hS s2 (30 : Int32) h
  · have h := of cn4 h
    refine r_bipush (v := 29) B dX5_behindTest_59 (by decide) ?_
    refine r_goto (tgt := 66) B dX5_behindTest_61 (by decide) ?_
    refine r_pick [0] (L' := [(0, vr (some 0))]) rfl ?_
    exact w_X5_behindTest_66 B hS s2 (29 : Int32) h
set_option maxHeartbeats 4000000 in
noncomputable def F_X5_behindTest_32 (s : St) (x1 : Int32) (z0 : Int32) : Option (Int32 × St) := bnd (F_X5_settle s z0) fun _ s2 => if x1 = 0 then (F_X5_behindTest_47 s2 x1 (30 : Int32)) else (F_X5_behindTest_47 s2 x1 (29 : Int32))
set_option maxHeartbeats 4000000 in
theorem w_X5_behindTest_32 {X : CX} {E : EV} {a0 s' : St} {r : Int32} (B : FX X E cX5_behindTest 2 (some .int) "RoseThrowModel" "behindTest" (sn a0) (ss a0) 3 61) (hS : ∀ σ, eSk E σ → SkM σ) (s : St) (x1 : Int32) (z0 : Int32) (h : F_X5_behindTest_32   s x1 z0 = some (r, s')) : J X E (sn a0) (ss a0) 2 (QR X E a0 (some (vi r)) s') s 32 [(0, vr (some 0)), (1, vi x1)] [vi z0, vr (some 0)] := by
  unfold F_X5_behindTest_32 at h
  obtain ⟨r1, s2, hc3, h⟩ := bnd_e h
  refine r_callV0 (As := [vi z0]) (rest := []) B rfl rfl EX.same (c_X5_settle B.ge hS hc3) (cw_X5_settle rfl rfl) (fun z => RV.of 5 ((fun z => by rw [(hS _ z).1 0 (by decide)]; rfl) z) rfl rfl qs83) q1952 q1954 rfl dX5_behindTest_32 ?_
  refine r_aload_n (j := 0) B dX5_behindTest_35 rfl rfl ?_
  refine r_iload_n (j := 1) B dX5_behindTest_36 rfl rfl ?_
  refine r_if_eq (tgt := 45) B dX5_behindTest_37 (by decide) (fun cn4 => ?_) (fun cn4 => ?_)
  · have h := ot cn4 h
    refine r_bipush (v := 30) B dX5_behindTest_45 (by decide) ?_
    exact w_X5_behindTest_47 B hS s2 x1 (30 : Int32) h
  · have h := of cn4 h
    refine r_bipush (v := 29) B dX5_behindTest_40 (by decide) ?_
    refine r_goto (tgt := 47) B dX5_behindTest_42 (by decide) ?_
    exact w_X5_behindTest_47 B hS s2 x1 (29 : Int32) h
set_option maxHeartbeats 4000000 in
noncomputable def F_X5_behindTest_22 (s : St) (x1 : Int32) : Option (Int32 × St) := if x1 = 0 then (F_X5_behindTest_32 s x1 (1 : Int32)) else (F_X5_behindTest_32 s x1 (2 : Int32))
set_option maxHeartbeats 4000000 in
theorem w_X5_behindTest_22 {X : CX} {E : EV} {a0 s' : St} {r : Int32} (B : FX X E cX5_behindTest 2 (some .int) "RoseThrowModel" "behindTest" (sn a0) (ss a0) 3 61) (hS : ∀ σ, eSk E σ → SkM σ) (s : St) (x1 : Int32) (h : F_X5_behindTest_22   s x1 = some (r, s')) : J X E (sn a0) (ss a0) 2 (QR X E a0 (some (vi r)) s') s 22 [(0, vr (some 0)), (1, vi x1)] [] := by
  unfold F_X5_behindTest_22 at h
  refine r_aload_n (j := 0) B dX5_behindTest_22 rfl rfl ?_
  refine r_iload_n (j := 1) B dX5_behindTest_23 rfl rfl ?_
  refine r_if_eq (tgt := 31) B dX5_behindTest_24 (by decide) (fun cn1 => ?_) (fun cn1 => ?_)
  · have h := ot cn1 h
    refine r_iconst (v := 1) B dX5_behindTest_31 (by decide) ?_
    exact w_X5_behindTest_32 B hS s x1 (1 : Int32) h
  · have h := of cn1 h
    refine r_iconst (v := 2) B dX5_behindTest_27 (by decide) ?_
    refine r_goto (tgt := 32) B dX5_behindTest_28 (by decide) ?_
    exact w_X5_behindTest_32 B hS s x1 (2 : Int32) h
set_option maxHeartbeats 4000000 in
noncomputable def F_X5_behindTest (s : St)  : Option (Int32 × St) := bnd (F_X5_isWord s (1476 : Int64)) fun r1 s2 => if r1 = 0 then (bnd (F_X5_isWord s2 (498 : Int64)) fun r5 s6 => if r5 = 0 then (bnd (F_X5_inner s6) fun r9 s10 => if r9 = (-1 : Int32) then (some ((4 : Int32), s10)) else (bnd (F_X5_isSign s10 (41 : Int32)) fun r13 s14 => bnd (F_X5_must s14 r13) fun _ s17 => if (si s17 0 20) = 0 then (bnd (F_X5_settle s17 (1 : Int32)) fun _ s21 => nam (setI s21 0 30 ((si s21 0 30) - (1 : Int32))) fun s23 => nam (setI s23 0 31 ((si s23 0 31) - (1 : Int32))) fun s25 => some ((2 : Int32), s25)) else (some ((2 : Int32), s17)))) else (F_X5_behindTest_22 s6 r1)) else (F_X5_behindTest_22 s2 r1)
set_option maxHeartbeats 4000000 in
theorem c_X5_behindTest {l : Launch} {E : EV} (hE : GE E) (hS : ∀ σ, eSk E σ → SkM σ) {s s' : St} {r : Int32}  (h : F_X5_behindTest  s  = some (r, s')) : CT l E yX5_behindTest cX5_behindTest 2 (some .int) 3 61 [vr (some 0)] s (some (vi r)) s' := by
  refine CT.start hE (by decide) rfl [(0, vr (some 0))] rfl (fun X hX B => ?_)
  skip
  have B : FX X E cX5_behindTest 2 (some .int) "RoseThrowModel" "behindTest" (sn s) (ss s) 3 61 := B
  unfold F_X5_behindTest at h
  refine r_aload_n (j := 0) B dX5_behindTest_0 rfl rfl ?_
  refine r_ldc2 B dX5_behindTest_1 q1970 ?_
  obtain ⟨r1, s2, hc3, h⟩ := bnd_e h
  refine r_callVv (As := [vl (1476 : Int64)]) (rest := []) B rfl rfl EX.same (c_X5_isWord B.ge hS hc3) (cw_X5_isWord rfl rfl) (fun z => RV.of 5 ((fun z => by rw [(hS _ z).1 0 (by decide)]; rfl) z) rfl rfl qs69) q1891 q1893 rfl dX5_behindTest_4 ?_
  refine r_istore_n (L' := [(0, vr (some 0)), (1, vi r1)]) B dX5_behindTest_7 rfl (by decide) rfl rfl rfl ?_
  refine r_iload_n (j := 1) B dX5_behindTest_8 rfl rfl ?_
  refine r_if_ne (tgt := 22) B dX5_behindTest_9 (by decide) (fun cn4 => ?_) (fun cn4 => ?_)
  · have h := of cn4 h
    exact w_X5_behindTest_22 B hS s2 r1 h
  · have h := ot cn4 h
    refine r_aload_n (j := 0) B dX5_behindTest_12 rfl rfl ?_
    refine r_ldc2 B dX5_behindTest_13 q1971 ?_
    obtain ⟨r5, s6, hc7, h⟩ := bnd_e h
    refine r_callVv (As := [vl (498 : Int64)]) (rest := []) B rfl rfl EX.same (c_X5_isWord B.ge hS hc7) (cw_X5_isWord rfl rfl) (fun z => RV.of 5 ((fun z => by rw [(hS _ z).1 0 (by decide)]; rfl) z) rfl rfl qs69) q1891 q1893 rfl dX5_behindTest_16 ?_
    refine r_if_eq (tgt := 76) B dX5_behindTest_19 (by decide) (fun cn8 => ?_) (fun cn8 => ?_)
    · have h := ot cn8 h
      refine r_aload_n (j := 0) B dX5_behindTest_76 rfl rfl ?_
      obtain ⟨r9, s10, hc11, h⟩ := bnd_e h
      refine r_callVv (As := []) (rest := []) B rfl rfl EX.same (c_X5_inner B.ge hS hc11) (cw_X5_inner rfl rfl) (fun z => RV.of 5 ((fun z => by rw [(hS _ z).1 0 (by decide)]; rfl) z) rfl rfl qs84) q1956 q1958 rfl dX5_behindTest_77 ?_
      refine r_iconst (v := -1) B dX5_behindTest_80 (by decide) ?_
      refine r_ic_ne (tgt := 86) B dX5_behindTest_81 (by decide) (fun cn12 => ?_) (fun cn12 => ?_)
      · have h := of cn12 h
        refine r_aload_n (j := 0) B dX5_behindTest_86 rfl rfl ?_
        refine r_aload_n (j := 0) B dX5_behindTest_87 rfl rfl ?_
        refine r_bipush (v := 41) B dX5_behindTest_88 (by decide) ?_
        obtain ⟨r13, s14, hc15, h⟩ := bnd_e h
        refine r_callVv (As := [vi (41 : Int32)]) (rest := [vr (some 0)]) B rfl rfl EX.same (c_X5_isSign B.ge hS hc15) (cw_X5_isSign rfl rfl) (fun z => RV.of 5 ((fun z => by rw [(hS _ z).1 0 (by decide)]; rfl) z) rfl rfl qs74) q1912 q1914 rfl dX5_behindTest_90 ?_
        obtain ⟨r16, s17, hc18, h⟩ := bnd_e h
        refine r_callV0 (As := [vi r13]) (rest := []) B rfl rfl EX.same (c_X5_must B.ge hS hc18) (cw_X5_must rfl rfl) (fun z => RV.of 5 ((fun z => by rw [(hS _ z).1 0 (by decide)]; rfl) z) rfl rfl qs70) q1895 q1897 rfl dX5_behindTest_93 ?_
        refine r_aload_n (j := 0) B dX5_behindTest_96 rfl rfl ?_
        refine g5 (k := 20) B (vi (si s17 0 20)) rfl (fun z => by rw [(hS _ z).1 0 (by decide)]; rfl) rfl q1537 rfl (fun _ => rfl) dX5_behindTest_97 ?_
        refine r_if_ne (tgt := 128) B dX5_behindTest_100 (by decide) (fun cn19 => ?_) (fun cn19 => ?_)
        · have h := of cn19 h
          refine r_iconst (v := 2) B dX5_behindTest_128 (by decide) ?_
          exact r_iret B dX5_behindTest_129 h
        · have h := ot cn19 h
          refine r_aload_n (j := 0) B dX5_behindTest_103 rfl rfl ?_
          refine r_iconst (v := 1) B dX5_behindTest_104 (by decide) ?_
          obtain ⟨r20, s21, hc22, h⟩ := bnd_e h
          refine r_callV0 (As := [vi (1 : Int32)]) (rest := []) B rfl rfl EX.same (c_X5_settle B.ge hS hc22) (cw_X5_settle rfl rfl) (fun z => RV.of 5 ((fun z => by rw [(hS _ z).1 0 (by decide)]; rfl) z) rfl rfl qs83) q1952 q1954 rfl dX5_behindTest_105 ?_
          refine r_aload_n (j := 0) B dX5_behindTest_108 rfl rfl ?_
          refine r_dup B dX5_behindTest_109 rfl ?_
          refine g5 (k := 30) B (vi (si s21 0 30)) rfl (fun z => by rw [(hS _ z).1 0 (by decide)]; rfl) rfl q1547 rfl (fun _ => rfl) dX5_behindTest_110 ?_
          refine r_iconst (v := 1) B dX5_behindTest_113 (by decide) ?_
          refine r_isub B dX5_behindTest_114 ?_
          obtain ⟨s23, e24, h⟩ := nam_e h
          refine pI5 (k := 30) B e24 rfl (fun z => by rw [(hS _ z).1 0 (by decide)]; rfl) rfl q1547 rfl rfl (fun _ _ _ => rfl) rfl dX5_behindTest_115 ?_
          refine r_aload_n (j := 0) B dX5_behindTest_118 rfl rfl ?_
          refine r_dup B dX5_behindTest_119 rfl ?_
          refine g5 (k := 31) B (vi (si s23 0 31)) rfl (fun z => by rw [(hS _ z).1 0 (by decide)]; rfl) rfl q1548 rfl (fun _ => rfl) dX5_behindTest_120 ?_
          refine r_iconst (v := 1) B dX5_behindTest_123 (by decide) ?_
          refine r_isub B dX5_behindTest_124 ?_
          obtain ⟨s25, e26, h⟩ := nam_e h
          refine pI5 (k := 31) B e26 rfl (fun z => by rw [(hS _ z).1 0 (by decide)]; rfl) rfl q1548 rfl rfl (fun _ _ _ => rfl) rfl dX5_behindTest_125 ?_
          refine r_iconst (v := 2) B dX5_behindTest_128 (by decide) ?_
          exact r_iret B dX5_behindTest_129 h
      · have h := ot cn12 h
        refine r_iconst (v := 4) B dX5_behindTest_84 (by decide) ?_
        exact r_iret B dX5_behindTest_85 h
    · have h := of cn8 h
      exact w_X5_behindTest_22 B hS s6 r1 h
set_option maxHeartbeats 4000000 in
theorem cw_X5_behindTest {X : CX} {fr lo : Nat} (h1 : Nat.ble (3 + 1) fr = true) (h2 : Nat.ble (21 + 61) lo = true) : CW X fr lo yX5_behindTest cX5_behindTest 2 (some .int) 3 61 0 := ⟨q1969, q136, ⟨by decide +kernel, by decide +kernel, by decide +kernel⟩, Nat.le_of_ble_eq_true h1, Nat.le_of_ble_eq_true h2⟩

set_option maxHeartbeats 4000000 in
noncomputable def F_X5_readExpression_76 (s : St)  : Option (Unit × St) := bnd (F_X5_settle s (1 : Int32)) fun _ s2 => some ((), s2)
set_option maxHeartbeats 4000000 in
theorem w_X5_readExpression_76 {X : CX} {E : EV} {a0 s' : St} {r : Unit} (B : FX X E cX5_readExpression 3 none "RoseThrowModel" "readExpression" (sn a0) (ss a0) 6 129) (hS : ∀ σ, eSk E σ → SkM σ) (s : St)  (h : F_X5_readExpression_76   s  = some (r, s')) : J X E (sn a0) (ss a0) 3 (QR X E a0 none s') s 76 [(0, vr (some 0))] [] := by
  unfold F_X5_readExpression_76 at h
  refine r_aload_n (j := 0) B dX5_readExpression_76 rfl rfl ?_
  refine r_iconst (v := 1) B dX5_readExpression_77 (by decide) ?_
  obtain ⟨r1, s2, hc3, h⟩ := bnd_e h
  refine r_callV0 (As := [vi (1 : Int32)]) (rest := []) B rfl rfl EX.same (c_X5_settle B.ge hS hc3) (cw_X5_settle rfl rfl) (fun z => RV.of 5 ((fun z => by rw [(hS _ z).1 0 (by decide)]; rfl) z) rfl rfl qs83) q1952 q1954 rfl dX5_readExpression_78 ?_
  exact r_vret B dX5_readExpression_81 h
set_option maxHeartbeats 4000000 in
noncomputable def F_X5_readExpression_20 : Nat → St → Int32 → Int32 → Option (Unit × St)
  | 0 => fun _ _ _ => none
  | n + 1 => fun s x1 x2 => if (si s 0 20) = 0 then (if x2 = (4 : Int32) then (F_X5_readExpression_76 s) else (if x2 = 0 then (bnd (F_X5_readPlain s) fun r15 s16 => F_X5_readExpression_20  n s16 x1 r15) else (if x2 = (1 : Int32) then (bnd (F_X5_readPart s) fun r12 s13 => F_X5_readExpression_20  n s13 x1 r12) else (if x2 = (3 : Int32) then (bnd (F_X5_behindSum s x1) fun r9 s10 => F_X5_readExpression_20  n s10 x1 r9) else (bnd (F_X5_behindTest s) fun r6 s7 => F_X5_readExpression_20  n s7 x1 r6))))) else (F_X5_readExpression_76 s)
set_option maxHeartbeats 4000000 in
theorem w_X5_readExpression_20 {X : CX} {E : EV} {a0 s' : St} {r : Unit} (B : FX X E cX5_readExpression 3 none "RoseThrowModel" "readExpression" (sn a0) (ss a0) 6 129) (hS : ∀ σ, eSk E σ → SkM σ) : ∀ (n : Nat) (s : St) (x1 : Int32) (x2 : Int32), F_X5_readExpression_20   n s x1 x2 = some (r, s') → J X E (sn a0) (ss a0) 3 (QR X E a0 none s') s 20 [(0, vr (some 0)), (1, vi x1), (2, vi x2)] [] := by
  intro n
  induction n with
  | zero => intro s x1 x2 h; exact absurd (show (none : Option (Unit × St)) = _ from h) (by simp)
  | succ n ih =>
    intro s x1 x2 h
    rw [F_X5_readExpression_20] at h
    refine r_aload_n (j := 0) B dX5_readExpression_20 rfl rfl ?_
    refine g5 (k := 20) B (vi (si s 0 20)) rfl (fun z => by rw [(hS _ z).1 0 (by decide)]; rfl) rfl q1537 rfl (fun _ => rfl) dX5_readExpression_21 ?_
    refine r_if_ne (tgt := 76) B dX5_readExpression_24 (by decide) (fun cn1 => ?_) (fun cn1 => ?_)
    · have h := of cn1 h
      refine r_pick [0] (L' := [(0, vr (some 0))]) rfl ?_
      exact w_X5_readExpression_76 B hS s h
    · have h := ot cn1 h
      refine r_iload_n (j := 2) B dX5_readExpression_27 rfl rfl ?_
      refine r_iconst (v := 4) B dX5_readExpression_28 (by decide) ?_
      refine r_ic_eq (tgt := 76) B dX5_readExpression_29 (by decide) (fun cn2 => ?_) (fun cn2 => ?_)
      · have h := ot cn2 h
        refine r_pick [0] (L' := [(0, vr (some 0))]) rfl ?_
        exact w_X5_readExpression_76 B hS s h
      · have h := of cn2 h
        refine r_iload_n (j := 2) B dX5_readExpression_32 rfl rfl ?_
        refine r_if_ne (tgt := 43) B dX5_readExpression_33 (by decide) (fun cn3 => ?_) (fun cn3 => ?_)
        · have h := of cn3 h
          refine r_iload_n (j := 2) B dX5_readExpression_43 rfl rfl ?_
          refine r_iconst (v := 1) B dX5_readExpression_44 (by decide) ?_
          refine r_ic_ne (tgt := 55) B dX5_readExpression_45 (by decide) (fun cn4 => ?_) (fun cn4 => ?_)
          · have h := of cn4 h
            refine r_iload_n (j := 2) B dX5_readExpression_55 rfl rfl ?_
            refine r_iconst (v := 3) B dX5_readExpression_56 (by decide) ?_
            refine r_ic_ne (tgt := 68) B dX5_readExpression_57 (by decide) (fun cn5 => ?_) (fun cn5 => ?_)
            · have h := of cn5 h
              refine r_aload_n (j := 0) B dX5_readExpression_68 rfl rfl ?_
              obtain ⟨r6, s7, hc8, h⟩ := bnd_e h
              refine r_callVv (As := []) (rest := []) B rfl rfl EX.same (c_X5_behindTest B.ge hS hc8) (cw_X5_behindTest rfl rfl) (fun z => RV.of 5 ((fun z => by rw [(hS _ z).1 0 (by decide)]; rfl) z) rfl rfl qs86) q1966 q1968 rfl dX5_readExpression_69 ?_
              refine r_istore_n (L' := [(0, vr (some 0)), (1, vi x1), (2, vi r6)]) B dX5_readExpression_72 rfl (by decide) rfl rfl rfl ?_
              refine r_goto (tgt := 20) B dX5_readExpression_73 (by decide) ?_
              exact ih s7 x1 r6 h
            · have h := ot cn5 h
              refine r_aload_n (j := 0) B dX5_readExpression_60 rfl rfl ?_
              refine r_iload_n (j := 1) B dX5_readExpression_61 rfl rfl ?_
              obtain ⟨r9, s10, hc11, h⟩ := bnd_e h
              refine r_callVv (As := [vi x1]) (rest := []) B rfl rfl EX.same (c_X5_behindSum B.ge hS hc11) (cw_X5_behindSum rfl rfl) (fun z => RV.of 5 ((fun z => by rw [(hS _ z).1 0 (by decide)]; rfl) z) rfl rfl qs82) q1945 q1947 rfl dX5_readExpression_62 ?_
              refine r_goto (tgt := 72) B dX5_readExpression_65 (by decide) ?_
              refine r_istore_n (L' := [(0, vr (some 0)), (1, vi x1), (2, vi r9)]) B dX5_readExpression_72 rfl (by decide) rfl rfl rfl ?_
              refine r_goto (tgt := 20) B dX5_readExpression_73 (by decide) ?_
              exact ih s10 x1 r9 h
          · have h := ot cn4 h
            refine r_aload_n (j := 0) B dX5_readExpression_48 rfl rfl ?_
            obtain ⟨r12, s13, hc14, h⟩ := bnd_e h
            refine r_callVv (As := []) (rest := []) B rfl rfl EX.same (c_X5_readPart B.ge hS hc14) (cw_X5_readPart rfl rfl) (fun z => RV.of 5 ((fun z => by rw [(hS _ z).1 0 (by decide)]; rfl) z) rfl rfl qs76) q1920 q1922 rfl dX5_readExpression_49 ?_
            refine r_goto (tgt := 72) B dX5_readExpression_52 (by decide) ?_
            refine r_istore_n (L' := [(0, vr (some 0)), (1, vi x1), (2, vi r12)]) B dX5_readExpression_72 rfl (by decide) rfl rfl rfl ?_
            refine r_goto (tgt := 20) B dX5_readExpression_73 (by decide) ?_
            exact ih s13 x1 r12 h
        · have h := ot cn3 h
          refine r_aload_n (j := 0) B dX5_readExpression_36 rfl rfl ?_
          obtain ⟨r15, s16, hc17, h⟩ := bnd_e h
          refine r_callVv (As := []) (rest := []) B rfl rfl EX.same (c_X5_readPlain B.ge hS hc17) (cw_X5_readPlain rfl rfl) (fun z => RV.of 5 ((fun z => by rw [(hS _ z).1 0 (by decide)]; rfl) z) rfl rfl qs72) q1903 q1905 rfl dX5_readExpression_37 ?_
          refine r_goto (tgt := 72) B dX5_readExpression_40 (by decide) ?_
          refine r_istore_n (L' := [(0, vr (some 0)), (1, vi x1), (2, vi r15)]) B dX5_readExpression_72 rfl (by decide) rfl rfl rfl ?_
          refine r_goto (tgt := 20) B dX5_readExpression_73 (by decide) ?_
          exact ih s16 x1 r15 h
set_option maxHeartbeats 4000000 in
noncomputable def F_X5_readExpression (s : St) (p0 : Int32) : Option (Unit × St) := nam (setI s 0 30 (0 : Int32)) fun s1 => nam (setI s1 0 31 (0 : Int32)) fun s3 => if p0 = 0 then (F_X5_readExpression_20 FU s3 p0 (1 : Int32)) else (F_X5_readExpression_20 FU s3 p0 (0 : Int32))
set_option maxHeartbeats 4000000 in
theorem c_X5_readExpression {l : Launch} {E : EV} (hE : GE E) (hS : ∀ σ, eSk E σ → SkM σ) {s s' : St} {r : Unit} {p0 : Int32} (h : F_X5_readExpression  s p0 = some (r, s')) : CT l E yX5_readExpression cX5_readExpression 3 none 6 129 [vr (some 0), vi p0] s none s' := by
  refine CT.start hE (by decide) rfl [(0, vr (some 0)), (1, vi p0)] rfl (fun X hX B => ?_)
  skip
  have B : FX X E cX5_readExpression 3 none "RoseThrowModel" "readExpression" (sn s) (ss s) 6 129 := B
  unfold F_X5_readExpression at h
  refine r_aload_n (j := 0) B dX5_readExpression_0 rfl rfl ?_
  refine r_iconst (v := 0) B dX5_readExpression_1 (by decide) ?_
  obtain ⟨s1, e2, h⟩ := nam_e h
  refine pI5 (k := 30) B e2 rfl (fun z => by rw [(hS _ z).1 0 (by decide)]; rfl) rfl q1547 rfl rfl (fun _ _ _ => rfl) rfl dX5_readExpression_2 ?_
  refine r_aload_n (j := 0) B dX5_readExpression_5 rfl rfl ?_
  refine r_iconst (v := 0) B dX5_readExpression_6 (by decide) ?_
  obtain ⟨s3, e4, h⟩ := nam_e h
  refine pI5 (k := 31) B e4 rfl (fun z => by rw [(hS _ z).1 0 (by decide)]; rfl) rfl q1548 rfl rfl (fun _ _ _ => rfl) rfl dX5_readExpression_7 ?_
  refine r_iload_n (j := 1) B dX5_readExpression_10 rfl rfl ?_
  refine r_if_eq (tgt := 18) B dX5_readExpression_11 (by decide) (fun cn5 => ?_) (fun cn5 => ?_)
  · have h := ot cn5 h
    refine r_iconst (v := 1) B dX5_readExpression_18 (by decide) ?_
    refine r_istore_n (L' := [(0, vr (some 0)), (1, vi p0), (2, vi (1 : Int32))]) B dX5_readExpression_19 rfl (by decide) rfl rfl rfl ?_
    exact w_X5_readExpression_20 B hS FU s3 p0 (1 : Int32) h
  · have h := of cn5 h
    refine r_iconst (v := 0) B dX5_readExpression_14 (by decide) ?_
    refine r_goto (tgt := 19) B dX5_readExpression_15 (by decide) ?_
    refine r_istore_n (L' := [(0, vr (some 0)), (1, vi p0), (2, vi (0 : Int32))]) B dX5_readExpression_19 rfl (by decide) rfl rfl rfl ?_
    exact w_X5_readExpression_20 B hS FU s3 p0 (0 : Int32) h
set_option maxHeartbeats 4000000 in
theorem cw_X5_readExpression {X : CX} {fr lo : Nat} (h1 : Nat.ble (6 + 1) fr = true) (h2 : Nat.ble (22 + 129) lo = true) : CW X fr lo yX5_readExpression cX5_readExpression 3 none 6 129 1 := ⟨q1902, q136, ⟨by decide +kernel, by decide +kernel, by decide +kernel⟩, Nat.le_of_ble_eq_true h1, Nat.le_of_ble_eq_true h2⟩

set_option maxHeartbeats 4000000 in
noncomputable def F_X5_readLaw_185 (s : St) (x2 : Int32) : Option (Unit × St) := gd (inb (x2 + (6 : Int32)) 96) <| nam (setI s 11 (x2 + (6 : Int32)).toNatClampNeg (si s 0 24)) fun s2 => some ((), s2)
set_option maxHeartbeats 4000000 in
theorem w_X5_readLaw_185 {X : CX} {E : EV} {a0 s' : St} {r : Unit} (B : FX X E cX5_readLaw 4 none "RoseThrowModel" "readLaw" (sn a0) (ss a0) 7 151) (hS : ∀ σ, eSk E σ → SkM σ) (s : St) (x2 : Int32) (h : F_X5_readLaw_185   s x2 = some (r, s')) : J X E (sn a0) (ss a0) 4 (QR X E a0 none s') s 185 [(0, vr (some 0)), (2, vi x2)] [] := by
  unfold F_X5_readLaw_185 at h
  refine r_aload_n (j := 0) B dX5_readLaw_185 rfl rfl ?_
  refine g5 (k := 23) B (vr (some 11)) rfl (fun z => by rw [(hS _ z).1 0 (by decide)]; rfl) rfl q1540 rfl (fun z => by rw [(hS _ z).2 _ (List.mem_of_getElem? (i := 10) rfl)]; rfl) dX5_readLaw_186 ?_
  refine r_iload_n (j := 1) B dX5_readLaw_189 rfl rfl ?_
  refine r_bipush (v := 6) B dX5_readLaw_190 (by decide) ?_
  refine r_iadd B dX5_readLaw_192 ?_
  refine r_aload_n (j := 0) B dX5_readLaw_193 rfl rfl ?_
  refine g5 (k := 24) B (vi (si s 0 24)) rfl (fun z => by rw [(hS _ z).1 0 (by decide)]; rfl) rfl q1541 rfl (fun _ => rfl) dX5_readLaw_194 ?_
  obtain ⟨hg1, h⟩ := gd_e h
  obtain ⟨s2, e3, h⟩ := nam_e h
  refine r_iast B e3 rfl (fun z => (hS _ z).1 11 (by decide)) hg1 dX5_readLaw_197 ?_
  exact r_vret B dX5_readLaw_198 h
set_option maxHeartbeats 4000000 in
noncomputable def F_X5_readLaw_135 (s : St) (x2 : Int32) : Option (Unit × St) := gd (inb (x2 + (4 : Int32)) 96) <| nam (setI s 11 (x2 + (4 : Int32)).toNatClampNeg (si s 0 24)) fun s2 => gd (inb (x2 + (5 : Int32)) 96) <| nam (setI s2 11 (x2 + (5 : Int32)).toNatClampNeg (si s2 0 24)) fun s5 => if (si s5 0 20) = 0 then (bnd (F_X5_isWord s5 (294 : Int64)) fun r8 s9 => if r8 = 0 then (F_X5_readLaw_185 s9 x2) else (bnd (F_X5_next s9) fun _ s13 => bnd (F_X5_readExpression s13 (1 : Int32)) fun _ s16 => F_X5_readLaw_185 s16 x2)) else (F_X5_readLaw_185 s5 x2)
set_option maxHeartbeats 4000000 in
theorem w_X5_readLaw_135 {X : CX} {E : EV} {a0 s' : St} {r : Unit} (B : FX X E cX5_readLaw 4 none "RoseThrowModel" "readLaw" (sn a0) (ss a0) 7 151) (hS : ∀ σ, eSk E σ → SkM σ) (s : St) (x2 : Int32) (h : F_X5_readLaw_135   s x2 = some (r, s')) : J X E (sn a0) (ss a0) 4 (QR X E a0 none s') s 135 [(0, vr (some 0)), (2, vi x2)] [] := by
  unfold F_X5_readLaw_135 at h
  refine r_aload_n (j := 0) B dX5_readLaw_135 rfl rfl ?_
  refine g5 (k := 23) B (vr (some 11)) rfl (fun z => by rw [(hS _ z).1 0 (by decide)]; rfl) rfl q1540 rfl (fun z => by rw [(hS _ z).2 _ (List.mem_of_getElem? (i := 10) rfl)]; rfl) dX5_readLaw_136 ?_
  refine r_iload_n (j := 1) B dX5_readLaw_139 rfl rfl ?_
  refine r_iconst (v := 4) B dX5_readLaw_140 (by decide) ?_
  refine r_iadd B dX5_readLaw_141 ?_
  refine r_aload_n (j := 0) B dX5_readLaw_142 rfl rfl ?_
  refine g5 (k := 24) B (vi (si s 0 24)) rfl (fun z => by rw [(hS _ z).1 0 (by decide)]; rfl) rfl q1541 rfl (fun _ => rfl) dX5_readLaw_143 ?_
  obtain ⟨hg1, h⟩ := gd_e h
  obtain ⟨s2, e3, h⟩ := nam_e h
  refine r_iast B e3 rfl (fun z => (hS _ z).1 11 (by decide)) hg1 dX5_readLaw_146 ?_
  refine r_aload_n (j := 0) B dX5_readLaw_147 rfl rfl ?_
  refine g5 (k := 23) B (vr (some 11)) rfl (fun z => by rw [(hS _ z).1 0 (by decide)]; rfl) rfl q1540 rfl (fun z => by rw [(hS _ z).2 _ (List.mem_of_getElem? (i := 10) rfl)]; rfl) dX5_readLaw_148 ?_
  refine r_iload_n (j := 1) B dX5_readLaw_151 rfl rfl ?_
  refine r_iconst (v := 5) B dX5_readLaw_152 (by decide) ?_
  refine r_iadd B dX5_readLaw_153 ?_
  refine r_aload_n (j := 0) B dX5_readLaw_154 rfl rfl ?_
  refine g5 (k := 24) B (vi (si s2 0 24)) rfl (fun z => by rw [(hS _ z).1 0 (by decide)]; rfl) rfl q1541 rfl (fun _ => rfl) dX5_readLaw_155 ?_
  obtain ⟨hg4, h⟩ := gd_e h
  obtain ⟨s5, e6, h⟩ := nam_e h
  refine r_iast B e6 rfl (fun z => (hS _ z).1 11 (by decide)) hg4 dX5_readLaw_158 ?_
  refine r_aload_n (j := 0) B dX5_readLaw_159 rfl rfl ?_
  refine g5 (k := 20) B (vi (si s5 0 20)) rfl (fun z => by rw [(hS _ z).1 0 (by decide)]; rfl) rfl q1537 rfl (fun _ => rfl) dX5_readLaw_160 ?_
  refine r_if_ne (tgt := 185) B dX5_readLaw_163 (by decide) (fun cn7 => ?_) (fun cn7 => ?_)
  · have h := of cn7 h
    exact w_X5_readLaw_185 B hS s5 x2 h
  · have h := ot cn7 h
    refine r_aload_n (j := 0) B dX5_readLaw_166 rfl rfl ?_
    refine r_ldc2 B dX5_readLaw_167 q1972 ?_
    obtain ⟨r8, s9, hc10, h⟩ := bnd_e h
    refine r_callVv (As := [vl (294 : Int64)]) (rest := []) B rfl rfl EX.same (c_X5_isWord B.ge hS hc10) (cw_X5_isWord rfl rfl) (fun z => RV.of 5 ((fun z => by rw [(hS _ z).1 0 (by decide)]; rfl) z) rfl rfl qs69) q1891 q1893 rfl dX5_readLaw_170 ?_
    refine r_if_eq (tgt := 185) B dX5_readLaw_173 (by decide) (fun cn11 => ?_) (fun cn11 => ?_)
    · have h := ot cn11 h
      exact w_X5_readLaw_185 B hS s9 x2 h
    · have h := of cn11 h
      refine r_aload_n (j := 0) B dX5_readLaw_176 rfl rfl ?_
      obtain ⟨r12, s13, hc14, h⟩ := bnd_e h
      refine r_callV0 (As := []) (rest := []) B rfl rfl EX.same (c_X5_next B.ge hS hc14) (cw_X5_next rfl rfl) (fun z => RV.of 5 ((fun z => by rw [(hS _ z).1 0 (by decide)]; rfl) z) rfl rfl qs67) q1872 q1874 rfl dX5_readLaw_177 ?_
      refine r_aload_n (j := 0) B dX5_readLaw_180 rfl rfl ?_
      refine r_iconst (v := 1) B dX5_readLaw_181 (by decide) ?_
      obtain ⟨r15, s16, hc17, h⟩ := bnd_e h
      refine r_callV0 (As := [vi (1 : Int32)]) (rest := []) B rfl rfl EX.same (c_X5_readExpression B.ge hS hc17) (cw_X5_readExpression rfl rfl) (fun z => RV.of 5 ((fun z => by rw [(hS _ z).1 0 (by decide)]; rfl) z) rfl rfl qs71) q1899 q1901 rfl dX5_readLaw_182 ?_
      exact w_X5_readLaw_185 B hS s16 x2 h
set_option maxHeartbeats 4000000 in
noncomputable def F_X5_readLaw_75 : Nat → St → Int32 → Int32 → Int32 → Option (Unit × St)
  | 0 => fun _ _ _ _ => none
  | n + 1 => fun s x1 x2 x3 => if (8 : Int32) ≤ x3 then (gd (inb x2 96) <| nam (setI s 11 x2.toNatClampNeg x1) fun s3 => nam (setI s3 0 22 ((si s3 0 22) + (1 : Int32))) fun s5 => gd (inb (x2 + (3 : Int32)) 96) <| nam (setI s5 11 (x2 + (3 : Int32)).toNatClampNeg (si s5 0 24)) fun s8 => if x1 = (3 : Int32) then (F_X5_readLaw_135 s8 x2) else (bnd (F_X5_readExpression s8 (0 : Int32)) fun _ s12 => F_X5_readLaw_135 s12 x2)) else (gd (inb (x2 + x3) 96) <| nam (setI s 11 (x2 + x3).toNatClampNeg (0 : Int32)) fun s15 => F_X5_readLaw_75  n s15 x1 x2 (x3 + (1)))
set_option maxHeartbeats 4000000 in
theorem w_X5_readLaw_75 {X : CX} {E : EV} {a0 s' : St} {r : Unit} (B : FX X E cX5_readLaw 4 none "RoseThrowModel" "readLaw" (sn a0) (ss a0) 7 151) (hS : ∀ σ, eSk E σ → SkM σ) : ∀ (n : Nat) (s : St) (x1 : Int32) (x2 : Int32) (x3 : Int32), F_X5_readLaw_75   n s x1 x2 x3 = some (r, s') → J X E (sn a0) (ss a0) 4 (QR X E a0 none s') s 75 [(0, vr (some 0)), (1, vi x1), (2, vi x2), (3, vi x3)] [] := by
  intro n
  induction n with
  | zero => intro s x1 x2 x3 h; exact absurd (show (none : Option (Unit × St)) = _ from h) (by simp)
  | succ n ih =>
    intro s x1 x2 x3 h
    rw [F_X5_readLaw_75] at h
    refine r_iload_n (j := 3) B dX5_readLaw_75 rfl rfl ?_
    refine r_bipush (v := 8) B dX5_readLaw_76 (by decide) ?_
    refine r_ic_ge (tgt := 96) B dX5_readLaw_78 (by decide) (fun cn1 => ?_) (fun cn1 => ?_)
    · have h := ot cn1 h
      refine r_aload_n (j := 0) B dX5_readLaw_96 rfl rfl ?_
      refine g5 (k := 23) B (vr (some 11)) rfl (fun z => by rw [(hS _ z).1 0 (by decide)]; rfl) rfl q1540 rfl (fun z => by rw [(hS _ z).2 _ (List.mem_of_getElem? (i := 10) rfl)]; rfl) dX5_readLaw_97 ?_
      refine r_iload_n (j := 2) B dX5_readLaw_100 rfl rfl ?_
      refine r_iload_n (j := 1) B dX5_readLaw_101 rfl rfl ?_
      obtain ⟨hg2, h⟩ := gd_e h
      obtain ⟨s3, e4, h⟩ := nam_e h
      refine r_iast B e4 rfl (fun z => (hS _ z).1 11 (by decide)) hg2 dX5_readLaw_102 ?_
      refine r_aload_n (j := 0) B dX5_readLaw_103 rfl rfl ?_
      refine r_dup B dX5_readLaw_104 rfl ?_
      refine g5 (k := 22) B (vi (si s3 0 22)) rfl (fun z => by rw [(hS _ z).1 0 (by decide)]; rfl) rfl q1539 rfl (fun _ => rfl) dX5_readLaw_105 ?_
      refine r_iconst (v := 1) B dX5_readLaw_108 (by decide) ?_
      refine r_iadd B dX5_readLaw_109 ?_
      obtain ⟨s5, e6, h⟩ := nam_e h
      refine pI5 (k := 22) B e6 rfl (fun z => by rw [(hS _ z).1 0 (by decide)]; rfl) rfl q1539 rfl rfl (fun _ _ _ => rfl) rfl dX5_readLaw_110 ?_
      refine r_aload_n (j := 0) B dX5_readLaw_113 rfl rfl ?_
      refine g5 (k := 23) B (vr (some 11)) rfl (fun z => by rw [(hS _ z).1 0 (by decide)]; rfl) rfl q1540 rfl (fun z => by rw [(hS _ z).2 _ (List.mem_of_getElem? (i := 10) rfl)]; rfl) dX5_readLaw_114 ?_
      refine r_iload_n (j := 2) B dX5_readLaw_117 rfl rfl ?_
      refine r_iconst (v := 3) B dX5_readLaw_118 (by decide) ?_
      refine r_iadd B dX5_readLaw_119 ?_
      refine r_aload_n (j := 0) B dX5_readLaw_120 rfl rfl ?_
      refine g5 (k := 24) B (vi (si s5 0 24)) rfl (fun z => by rw [(hS _ z).1 0 (by decide)]; rfl) rfl q1541 rfl (fun _ => rfl) dX5_readLaw_121 ?_
      obtain ⟨hg7, h⟩ := gd_e h
      obtain ⟨s8, e9, h⟩ := nam_e h
      refine r_iast B e9 rfl (fun z => (hS _ z).1 11 (by decide)) hg7 dX5_readLaw_124 ?_
      refine r_iload_n (j := 1) B dX5_readLaw_125 rfl rfl ?_
      refine r_iconst (v := 3) B dX5_readLaw_126 (by decide) ?_
      refine r_ic_eq (tgt := 135) B dX5_readLaw_127 (by decide) (fun cn10 => ?_) (fun cn10 => ?_)
      · have h := ot cn10 h
        refine r_pick [0, 2] (L' := [(0, vr (some 0)), (2, vi x2)]) rfl ?_
        exact w_X5_readLaw_135 B hS s8 x2 h
      · have h := of cn10 h
        refine r_aload_n (j := 0) B dX5_readLaw_130 rfl rfl ?_
        refine r_iconst (v := 0) B dX5_readLaw_131 (by decide) ?_
        obtain ⟨r11, s12, hc13, h⟩ := bnd_e h
        refine r_callV0 (As := [vi (0 : Int32)]) (rest := []) B rfl rfl EX.same (c_X5_readExpression B.ge hS hc13) (cw_X5_readExpression rfl rfl) (fun z => RV.of 5 ((fun z => by rw [(hS _ z).1 0 (by decide)]; rfl) z) rfl rfl qs71) q1899 q1901 rfl dX5_readLaw_132 ?_
        refine r_pick [0, 2] (L' := [(0, vr (some 0)), (2, vi x2)]) rfl ?_
        exact w_X5_readLaw_135 B hS s12 x2 h
    · have h := of cn1 h
      refine r_aload_n (j := 0) B dX5_readLaw_81 rfl rfl ?_
      refine g5 (k := 23) B (vr (some 11)) rfl (fun z => by rw [(hS _ z).1 0 (by decide)]; rfl) rfl q1540 rfl (fun z => by rw [(hS _ z).2 _ (List.mem_of_getElem? (i := 10) rfl)]; rfl) dX5_readLaw_82 ?_
      refine r_iload_n (j := 2) B dX5_readLaw_85 rfl rfl ?_
      refine r_iload_n (j := 3) B dX5_readLaw_86 rfl rfl ?_
      refine r_iadd B dX5_readLaw_87 ?_
      refine r_iconst (v := 0) B dX5_readLaw_88 (by decide) ?_
      obtain ⟨hg14, h⟩ := gd_e h
      obtain ⟨s15, e16, h⟩ := nam_e h
      refine r_iast B e16 rfl (fun z => (hS _ z).1 11 (by decide)) hg14 dX5_readLaw_89 ?_
      refine r_iinc (j := 3) (v := (x3 + (1))) (L' := [(0, vr (some 0)), (1, vi x1), (2, vi x2), (3, vi (x3 + (1)))]) B dX5_readLaw_90 rfl rfl (by decide) rfl rfl rfl ?_
      refine r_goto (tgt := 75) B dX5_readLaw_93 (by decide) ?_
      exact ih s15 x1 x2 (x3 + (1)) h
set_option maxHeartbeats 4000000 in
noncomputable def F_X5_readLaw_54 (s : St) (x1 : Int32) (z0 : Int32) : Option (Unit × St) := bnd (F_X5_must s z0) fun _ s2 => if (si s2 0 20) = 0 then (F_X5_readLaw_75 FU s2 x1 ((8 : Int32) * (si s2 0 22)) (0 : Int32)) else (some ((), s2))
set_option maxHeartbeats 4000000 in
theorem w_X5_readLaw_54 {X : CX} {E : EV} {a0 s' : St} {r : Unit} (B : FX X E cX5_readLaw 4 none "RoseThrowModel" "readLaw" (sn a0) (ss a0) 7 151) (hS : ∀ σ, eSk E σ → SkM σ) (s : St) (x1 : Int32) (z0 : Int32) (h : F_X5_readLaw_54   s x1 z0 = some (r, s')) : J X E (sn a0) (ss a0) 4 (QR X E a0 none s') s 54 [(0, vr (some 0)), (1, vi x1)] [vi z0, vr (some 0)] := by
  unfold F_X5_readLaw_54 at h
  obtain ⟨r1, s2, hc3, h⟩ := bnd_e h
  refine r_callV0 (As := [vi z0]) (rest := []) B rfl rfl EX.same (c_X5_must B.ge hS hc3) (cw_X5_must rfl rfl) (fun z => RV.of 5 ((fun z => by rw [(hS _ z).1 0 (by decide)]; rfl) z) rfl rfl qs70) q1895 q1897 rfl dX5_readLaw_54 ?_
  refine r_aload_n (j := 0) B dX5_readLaw_57 rfl rfl ?_
  refine g5 (k := 20) B (vi (si s2 0 20)) rfl (fun z => by rw [(hS _ z).1 0 (by decide)]; rfl) rfl q1537 rfl (fun _ => rfl) dX5_readLaw_58 ?_
  refine r_if_eq (tgt := 65) B dX5_readLaw_61 (by decide) (fun cn4 => ?_) (fun cn4 => ?_)
  · have h := ot cn4 h
    refine r_bipush (v := 8) B dX5_readLaw_65 (by decide) ?_
    refine r_aload_n (j := 0) B dX5_readLaw_67 rfl rfl ?_
    refine g5 (k := 22) B (vi (si s2 0 22)) rfl (fun z => by rw [(hS _ z).1 0 (by decide)]; rfl) rfl q1539 rfl (fun _ => rfl) dX5_readLaw_68 ?_
    refine r_imul B dX5_readLaw_71 ?_
    refine r_istore_n (L' := [(0, vr (some 0)), (1, vi x1), (2, vi ((8 : Int32) * (si s2 0 22)))]) B dX5_readLaw_72 rfl (by decide) rfl rfl rfl ?_
    refine r_iconst (v := 0) B dX5_readLaw_73 (by decide) ?_
    refine r_istore_n (L' := [(0, vr (some 0)), (1, vi x1), (2, vi ((8 : Int32) * (si s2 0 22))), (3, vi (0 : Int32))]) B dX5_readLaw_74 rfl (by decide) rfl rfl rfl ?_
    exact w_X5_readLaw_75 B hS FU s2 x1 ((8 : Int32) * (si s2 0 22)) (0 : Int32) h
  · have h := of cn4 h
    exact r_vret B dX5_readLaw_64 h
set_option maxHeartbeats 4000000 in
noncomputable def F_X5_readLaw_53 (s : St) (x1 : Int32) : Option (Unit × St) := F_X5_readLaw_54 s x1 (0 : Int32)
set_option maxHeartbeats 4000000 in
theorem w_X5_readLaw_53 {X : CX} {E : EV} {a0 s' : St} {r : Unit} (B : FX X E cX5_readLaw 4 none "RoseThrowModel" "readLaw" (sn a0) (ss a0) 7 151) (hS : ∀ σ, eSk E σ → SkM σ) (s : St) (x1 : Int32) (h : F_X5_readLaw_53   s x1 = some (r, s')) : J X E (sn a0) (ss a0) 4 (QR X E a0 none s') s 53 [(0, vr (some 0)), (1, vi x1)] [vr (some 0)] := by
  unfold F_X5_readLaw_53 at h
  refine r_iconst (v := 0) B dX5_readLaw_53 (by decide) ?_
  exact w_X5_readLaw_54 B hS s x1 (0 : Int32) h
set_option maxHeartbeats 4000000 in
noncomputable def F_X5_readLaw_4 : Nat → St → Int32 → Int32 → Option (Unit × St)
  | 0 => fun _ _ _ => none
  | n + 1 => fun s x1 x2 => if (4 : Int32) ≤ x2 then (if x1 = (-1 : Int32) then (F_X5_readLaw_53 s x1) else (if (12 : Int32) ≤ (si s 0 22) then (F_X5_readLaw_53 s x1) else (F_X5_readLaw_54 s x1 (1 : Int32)))) else (gd (inb x2 4) <| bnd (F_X5_isWord s (sl s 18 x2.toNatClampNeg)) fun r5 s6 => if r5 = 0 then (F_X5_readLaw_4  n s6 x1 (x2 + (1))) else (F_X5_readLaw_4  n s6 x2 (x2 + (1))))
set_option maxHeartbeats 4000000 in
theorem w_X5_readLaw_4 {X : CX} {E : EV} {a0 s' : St} {r : Unit} (B : FX X E cX5_readLaw 4 none "RoseThrowModel" "readLaw" (sn a0) (ss a0) 7 151) (hS : ∀ σ, eSk E σ → SkM σ) : ∀ (n : Nat) (s : St) (x1 : Int32) (x2 : Int32), F_X5_readLaw_4   n s x1 x2 = some (r, s') → J X E (sn a0) (ss a0) 4 (QR X E a0 none s') s 4 [(0, vr (some 0)), (1, vi x1), (2, vi x2)] [] := by
  intro n
  induction n with
  | zero => intro s x1 x2 h; exact absurd (show (none : Option (Unit × St)) = _ from h) (by simp)
  | succ n ih =>
    intro s x1 x2 h
    rw [F_X5_readLaw_4] at h
    refine r_iload_n (j := 2) B dX5_readLaw_4 rfl rfl ?_
    refine r_iconst (v := 4) B dX5_readLaw_5 (by decide) ?_
    refine r_ic_ge (tgt := 34) B dX5_readLaw_6 (by decide) (fun cn1 => ?_) (fun cn1 => ?_)
    · have h := ot cn1 h
      refine r_aload_n (j := 0) B dX5_readLaw_34 rfl rfl ?_
      refine r_iload_n (j := 1) B dX5_readLaw_35 rfl rfl ?_
      refine r_iconst (v := -1) B dX5_readLaw_36 (by decide) ?_
      refine r_ic_eq (tgt := 53) B dX5_readLaw_37 (by decide) (fun cn2 => ?_) (fun cn2 => ?_)
      · have h := ot cn2 h
        refine r_pick [0, 1] (L' := [(0, vr (some 0)), (1, vi x1)]) rfl ?_
        exact w_X5_readLaw_53 B hS s x1 h
      · have h := of cn2 h
        refine r_aload_n (j := 0) B dX5_readLaw_40 rfl rfl ?_
        refine g5 (k := 22) B (vi (si s 0 22)) rfl (fun z => by rw [(hS _ z).1 0 (by decide)]; rfl) rfl q1539 rfl (fun _ => rfl) dX5_readLaw_41 ?_
        refine r_bipush (v := 12) B dX5_readLaw_44 (by decide) ?_
        refine r_ic_ge (tgt := 53) B dX5_readLaw_46 (by decide) (fun cn3 => ?_) (fun cn3 => ?_)
        · have h := ot cn3 h
          refine r_pick [0, 1] (L' := [(0, vr (some 0)), (1, vi x1)]) rfl ?_
          exact w_X5_readLaw_53 B hS s x1 h
        · have h := of cn3 h
          refine r_iconst (v := 1) B dX5_readLaw_49 (by decide) ?_
          refine r_goto (tgt := 54) B dX5_readLaw_50 (by decide) ?_
          refine r_pick [0, 1] (L' := [(0, vr (some 0)), (1, vi x1)]) rfl ?_
          exact w_X5_readLaw_54 B hS s x1 (1 : Int32) h
    · have h := of cn1 h
      refine r_aload_n (j := 0) B dX5_readLaw_9 rfl rfl ?_
      refine r_aload_n (j := 0) B dX5_readLaw_10 rfl rfl ?_
      refine g5 (k := 34) B (vr (some 18)) rfl (fun z => by rw [(hS _ z).1 0 (by decide)]; rfl) rfl q1551 rfl (fun z => by rw [(hS _ z).2 _ (List.mem_of_getElem? (i := 17) rfl)]; rfl) dX5_readLaw_11 ?_
      refine r_iload_n (j := 2) B dX5_readLaw_14 rfl rfl ?_
      obtain ⟨hg4, h⟩ := gd_e h
      refine r_lald B rfl (fun z => (hS _ z).1 18 (by decide)) hg4 dX5_readLaw_15 ?_
      obtain ⟨r5, s6, hc7, h⟩ := bnd_e h
      refine r_callVv (As := [vl (sl s 18 x2.toNatClampNeg)]) (rest := []) B rfl rfl EX.same (c_X5_isWord B.ge hS hc7) (cw_X5_isWord rfl rfl) (fun z => RV.of 5 ((fun z => by rw [(hS _ z).1 0 (by decide)]; rfl) z) rfl rfl qs69) q1891 q1893 rfl dX5_readLaw_16 ?_
      refine r_if_eq (tgt := 26) B dX5_readLaw_19 (by decide) (fun cn8 => ?_) (fun cn8 => ?_)
      · have h := ot cn8 h
        refine r_iload_n (j := 1) B dX5_readLaw_26 rfl rfl ?_
        refine r_istore_n (L' := [(0, vr (some 0)), (1, vi x1), (2, vi x2)]) B dX5_readLaw_27 rfl (by decide) rfl rfl rfl ?_
        refine r_iinc (j := 2) (v := (x2 + (1))) (L' := [(0, vr (some 0)), (1, vi x1), (2, vi (x2 + (1)))]) B dX5_readLaw_28 rfl rfl (by decide) rfl rfl rfl ?_
        refine r_goto (tgt := 4) B dX5_readLaw_31 (by decide) ?_
        exact ih s6 x1 (x2 + (1)) h
      · have h := of cn8 h
        refine r_iload_n (j := 2) B dX5_readLaw_22 rfl rfl ?_
        refine r_goto (tgt := 27) B dX5_readLaw_23 (by decide) ?_
        refine r_istore_n (L' := [(0, vr (some 0)), (1, vi x2), (2, vi x2)]) B dX5_readLaw_27 rfl (by decide) rfl rfl rfl ?_
        refine r_iinc (j := 2) (v := (x2 + (1))) (L' := [(0, vr (some 0)), (1, vi x2), (2, vi (x2 + (1)))]) B dX5_readLaw_28 rfl rfl (by decide) rfl rfl rfl ?_
        refine r_goto (tgt := 4) B dX5_readLaw_31 (by decide) ?_
        exact ih s6 x2 (x2 + (1)) h
set_option maxHeartbeats 4000000 in
noncomputable def F_X5_readLaw (s : St)  : Option (Unit × St) := F_X5_readLaw_4 FU s (-1 : Int32) (0 : Int32)
set_option maxHeartbeats 4000000 in
theorem c_X5_readLaw {l : Launch} {E : EV} (hE : GE E) (hS : ∀ σ, eSk E σ → SkM σ) {s s' : St} {r : Unit}  (h : F_X5_readLaw  s  = some (r, s')) : CT l E yX5_readLaw cX5_readLaw 4 none 7 151 [vr (some 0)] s none s' := by
  refine CT.start hE (by decide) rfl [(0, vr (some 0))] rfl (fun X hX B => ?_)
  skip
  have B : FX X E cX5_readLaw 4 none "RoseThrowModel" "readLaw" (sn s) (ss s) 7 151 := B
  unfold F_X5_readLaw at h
  refine r_iconst (v := -1) B dX5_readLaw_0 (by decide) ?_
  refine r_istore_n (L' := [(0, vr (some 0)), (1, vi (-1 : Int32))]) B dX5_readLaw_1 rfl (by decide) rfl rfl rfl ?_
  refine r_iconst (v := 0) B dX5_readLaw_2 (by decide) ?_
  refine r_istore_n (L' := [(0, vr (some 0)), (1, vi (-1 : Int32)), (2, vi (0 : Int32))]) B dX5_readLaw_3 rfl (by decide) rfl rfl rfl ?_
  exact w_X5_readLaw_4 B hS FU s (-1 : Int32) (0 : Int32) h
set_option maxHeartbeats 4000000 in
theorem cw_X5_readLaw {X : CX} {fr lo : Nat} (h1 : Nat.ble (7 + 1) fr = true) (h2 : Nat.ble (23 + 151) lo = true) : CW X fr lo yX5_readLaw cX5_readLaw 4 none 7 151 0 := ⟨q1890, q136, ⟨by decide +kernel, by decide +kernel, by decide +kernel⟩, Nat.le_of_ble_eq_true h1, Nat.le_of_ble_eq_true h2⟩

set_option maxHeartbeats 4000000 in
noncomputable def F_X5_endText_19 (s : St)  : Option (Unit × St) := nam (setI s 0 21 (0 : Int32)) fun s1 => nam (setI s1 0 14 (0 : Int32)) fun s3 => some ((), s3)
set_option maxHeartbeats 4000000 in
theorem w_X5_endText_19 {X : CX} {E : EV} {a0 s' : St} {r : Unit} (B : FX X E cX5_endText 1 none "RoseThrowModel" "endText" (sn a0) (ss a0) 3 61) (hS : ∀ σ, eSk E σ → SkM σ) (s : St)  (h : F_X5_endText_19   s  = some (r, s')) : J X E (sn a0) (ss a0) 1 (QR X E a0 none s') s 19 [(0, vr (some 0))] [] := by
  unfold F_X5_endText_19 at h
  refine r_aload_n (j := 0) B dX5_endText_19 rfl rfl ?_
  refine r_iconst (v := 0) B dX5_endText_20 (by decide) ?_
  obtain ⟨s1, e2, h⟩ := nam_e h
  refine pI5 (k := 21) B e2 rfl (fun z => by rw [(hS _ z).1 0 (by decide)]; rfl) rfl q1538 rfl rfl (fun _ _ _ => rfl) (by decide) dX5_endText_21 ?_
  refine r_aload_n (j := 0) B dX5_endText_24 rfl rfl ?_
  refine r_iconst (v := 0) B dX5_endText_25 (by decide) ?_
  obtain ⟨s3, e4, h⟩ := nam_e h
  refine pI5 (k := 14) B e4 rfl (fun z => by rw [(hS _ z).1 0 (by decide)]; rfl) rfl q1531 rfl rfl (fun _ _ _ => rfl) rfl dX5_endText_26 ?_
  exact r_vret B dX5_endText_29 h
set_option maxHeartbeats 4000000 in
noncomputable def F_X5_endText (s : St)  : Option (Unit × St) := if (si s 0 20) = 0 then (if (si s 0 17) = 0 then (F_X5_endText_19 s) else (bnd (F_X5_must s (0 : Int32)) fun _ s4 => F_X5_endText_19 s4)) else (F_X5_endText_19 s)
set_option maxHeartbeats 4000000 in
theorem c_X5_endText {l : Launch} {E : EV} (hE : GE E) (hS : ∀ σ, eSk E σ → SkM σ) {s s' : St} {r : Unit}  (h : F_X5_endText  s  = some (r, s')) : CT l E yX5_endText cX5_endText 1 none 3 61 [vr (some 0)] s none s' := by
  refine CT.start hE (by decide) rfl [(0, vr (some 0))] rfl (fun X hX B => ?_)
  skip
  have B : FX X E cX5_endText 1 none "RoseThrowModel" "endText" (sn s) (ss s) 3 61 := B
  unfold F_X5_endText at h
  refine r_aload_n (j := 0) B dX5_endText_0 rfl rfl ?_
  refine g5 (k := 20) B (vi (si s 0 20)) rfl (fun z => by rw [(hS _ z).1 0 (by decide)]; rfl) rfl q1537 rfl (fun _ => rfl) dX5_endText_1 ?_
  refine r_if_ne (tgt := 19) B dX5_endText_4 (by decide) (fun cn1 => ?_) (fun cn1 => ?_)
  · have h := of cn1 h
    exact w_X5_endText_19 B hS s h
  · have h := ot cn1 h
    refine r_aload_n (j := 0) B dX5_endText_7 rfl rfl ?_
    refine g5 (k := 17) B (vi (si s 0 17)) rfl (fun z => by rw [(hS _ z).1 0 (by decide)]; rfl) rfl q1534 rfl (fun _ => rfl) dX5_endText_8 ?_
    refine r_if_eq (tgt := 19) B dX5_endText_11 (by decide) (fun cn2 => ?_) (fun cn2 => ?_)
    · have h := ot cn2 h
      exact w_X5_endText_19 B hS s h
    · have h := of cn2 h
      refine r_aload_n (j := 0) B dX5_endText_14 rfl rfl ?_
      refine r_iconst (v := 0) B dX5_endText_15 (by decide) ?_
      obtain ⟨r3, s4, hc5, h⟩ := bnd_e h
      refine r_callV0 (As := [vi (0 : Int32)]) (rest := []) B rfl rfl EX.same (c_X5_must B.ge hS hc5) (cw_X5_must rfl rfl) (fun z => RV.of 5 ((fun z => by rw [(hS _ z).1 0 (by decide)]; rfl) z) rfl rfl qs70) q1895 q1897 rfl dX5_endText_16 ?_
      exact w_X5_endText_19 B hS s4 h
set_option maxHeartbeats 4000000 in
theorem cw_X5_endText {X : CX} {fr lo : Nat} (h1 : Nat.ble (3 + 1) fr = true) (h2 : Nat.ble (20 + 61) lo = true) : CW X fr lo yX5_endText cX5_endText 1 none 3 61 0 := ⟨q1976, q136, ⟨by decide +kernel, by decide +kernel, by decide +kernel⟩, Nat.le_of_ble_eq_true h1, Nat.le_of_ble_eq_true h2⟩

set_option maxHeartbeats 4000000 in
noncomputable def F_X5_law_145 : Nat → St → Int32 → Int32 → Option (Int32 × St)
  | 0 => fun _ _ _ => none
  | n + 1 => fun s x1 x2 => if (si s 0 24) ≤ x2 then (gd (inb (2 : Int32) 5460) <| gd (inb (2 : Int32) 5460) <| nam (setI s 2 (2 : Int32).toNatClampNeg ((si s 2 (2 : Int32).toNatClampNeg) + (1 : Int32))) fun s4 => gd (inb (2 : Int32) 5460) <| bnd (F_X5_tell s4 ((si s4 2 (2 : Int32).toNatClampNeg) - (1 : Int32))) fun r7 s8 => some (r7, s8)) else (gd (inb x2 400) <| gd (inb ((x1 + (98 : Int32)) + ((2 : Int32) * x2)) 5460) <| nam (setI s 2 ((x1 + (98 : Int32)) + ((2 : Int32) * x2)).toNatClampNeg (si s 12 x2.toNatClampNeg)) fun s12 => gd (inb x2 400) <| gd (inb (((x1 + (98 : Int32)) + ((2 : Int32) * x2)) + (1 : Int32)) 5460) <| nam (setI s12 2 (((x1 + (98 : Int32)) + ((2 : Int32) * x2)) + (1 : Int32)).toNatClampNeg (si s12 13 x2.toNatClampNeg)) fun s16 => F_X5_law_145  n s16 x1 (x2 + (1)))
set_option maxHeartbeats 4000000 in
theorem w_X5_law_145 {X : CX} {E : EV} {a0 s' : St} {r : Int32} (B : FX X E cX5_law 3 (some .int) "RoseThrowModel" "law" (sn a0) (ss a0) 8 174) (hS : ∀ σ, eSk E σ → SkM σ) : ∀ (n : Nat) (s : St) (x1 : Int32) (x2 : Int32), F_X5_law_145   n s x1 x2 = some (r, s') → J X E (sn a0) (ss a0) 3 (QR X E a0 (some (vi r)) s') s 145 [(0, vr (some 0)), (1, vi x1), (2, vi x2)] [] := by
  intro n
  induction n with
  | zero => intro s x1 x2 h; exact absurd (show (none : Option (Int32 × St)) = _ from h) (by simp)
  | succ n ih =>
    intro s x1 x2 h
    rw [F_X5_law_145] at h
    refine r_iload_n (j := 2) B dX5_law_145 rfl rfl ?_
    refine r_aload_n (j := 0) B dX5_law_146 rfl rfl ?_
    refine g5 (k := 24) B (vi (si s 0 24)) rfl (fun z => by rw [(hS _ z).1 0 (by decide)]; rfl) rfl q1541 rfl (fun _ => rfl) dX5_law_147 ?_
    refine r_ic_ge (tgt := 199) B dX5_law_150 (by decide) (fun cn1 => ?_) (fun cn1 => ?_)
    · have h := ot cn1 h
      refine r_aload_n (j := 0) B dX5_law_199 rfl rfl ?_
      refine g5 (k := 3) B (vr (some 2)) rfl (fun z => by rw [(hS _ z).1 0 (by decide)]; rfl) rfl q1520 rfl (fun z => by rw [(hS _ z).2 _ (List.mem_of_getElem? (i := 1) rfl)]; rfl) dX5_law_200 ?_
      refine r_iconst (v := 2) B dX5_law_203 (by decide) ?_
      refine r_dup2 B dX5_law_204 rfl rfl ?_
      obtain ⟨hg2, h⟩ := gd_e h
      refine r_iald B rfl (fun z => (hS _ z).1 2 (by decide)) hg2 dX5_law_205 ?_
      refine r_iconst (v := 1) B dX5_law_206 (by decide) ?_
      refine r_iadd B dX5_law_207 ?_
      obtain ⟨hg3, h⟩ := gd_e h
      obtain ⟨s4, e5, h⟩ := nam_e h
      refine r_iast B e5 rfl (fun z => (hS _ z).1 2 (by decide)) hg3 dX5_law_208 ?_
      refine r_aload_n (j := 0) B dX5_law_209 rfl rfl ?_
      refine r_aload_n (j := 0) B dX5_law_210 rfl rfl ?_
      refine g5 (k := 3) B (vr (some 2)) rfl (fun z => by rw [(hS _ z).1 0 (by decide)]; rfl) rfl q1520 rfl (fun z => by rw [(hS _ z).2 _ (List.mem_of_getElem? (i := 1) rfl)]; rfl) dX5_law_211 ?_
      refine r_iconst (v := 2) B dX5_law_214 (by decide) ?_
      obtain ⟨hg6, h⟩ := gd_e h
      refine r_iald B rfl (fun z => (hS _ z).1 2 (by decide)) hg6 dX5_law_215 ?_
      refine r_iconst (v := 1) B dX5_law_216 (by decide) ?_
      refine r_isub B dX5_law_217 ?_
      obtain ⟨r7, s8, hc9, h⟩ := bnd_e h
      refine r_callVv (As := [vi ((si s4 2 (2 : Int32).toNatClampNeg) - (1 : Int32))]) (rest := []) B rfl rfl EX.same (c_X5_tell B.ge hS hc9) (cw_X5_tell rfl rfl) (fun z => RV.of 5 ((fun z => by rw [(hS _ z).1 0 (by decide)]; rfl) z) rfl rfl qs47) q1724 q1726 rfl dX5_law_218 ?_
      exact r_iret B dX5_law_221 h
    · have h := of cn1 h
      refine r_aload_n (j := 0) B dX5_law_153 rfl rfl ?_
      refine g5 (k := 3) B (vr (some 2)) rfl (fun z => by rw [(hS _ z).1 0 (by decide)]; rfl) rfl q1520 rfl (fun z => by rw [(hS _ z).2 _ (List.mem_of_getElem? (i := 1) rfl)]; rfl) dX5_law_154 ?_
      refine r_iload_n (j := 1) B dX5_law_157 rfl rfl ?_
      refine r_bipush (v := 98) B dX5_law_158 (by decide) ?_
      refine r_iadd B dX5_law_160 ?_
      refine r_iconst (v := 2) B dX5_law_161 (by decide) ?_
      refine r_iload_n (j := 2) B dX5_law_162 rfl rfl ?_
      refine r_imul B dX5_law_163 ?_
      refine r_iadd B dX5_law_164 ?_
      refine r_aload_n (j := 0) B dX5_law_165 rfl rfl ?_
      refine g5 (k := 25) B (vr (some 12)) rfl (fun z => by rw [(hS _ z).1 0 (by decide)]; rfl) rfl q1542 rfl (fun z => by rw [(hS _ z).2 _ (List.mem_of_getElem? (i := 11) rfl)]; rfl) dX5_law_166 ?_
      refine r_iload_n (j := 2) B dX5_law_169 rfl rfl ?_
      obtain ⟨hg10, h⟩ := gd_e h
      refine r_iald B rfl (fun z => (hS _ z).1 12 (by decide)) hg10 dX5_law_170 ?_
      obtain ⟨hg11, h⟩ := gd_e h
      obtain ⟨s12, e13, h⟩ := nam_e h
      refine r_iast B e13 rfl (fun z => (hS _ z).1 2 (by decide)) hg11 dX5_law_171 ?_
      refine r_aload_n (j := 0) B dX5_law_172 rfl rfl ?_
      refine g5 (k := 3) B (vr (some 2)) rfl (fun z => by rw [(hS _ z).1 0 (by decide)]; rfl) rfl q1520 rfl (fun z => by rw [(hS _ z).2 _ (List.mem_of_getElem? (i := 1) rfl)]; rfl) dX5_law_173 ?_
      refine r_iload_n (j := 1) B dX5_law_176 rfl rfl ?_
      refine r_bipush (v := 98) B dX5_law_177 (by decide) ?_
      refine r_iadd B dX5_law_179 ?_
      refine r_iconst (v := 2) B dX5_law_180 (by decide) ?_
      refine r_iload_n (j := 2) B dX5_law_181 rfl rfl ?_
      refine r_imul B dX5_law_182 ?_
      refine r_iadd B dX5_law_183 ?_
      refine r_iconst (v := 1) B dX5_law_184 (by decide) ?_
      refine r_iadd B dX5_law_185 ?_
      refine r_aload_n (j := 0) B dX5_law_186 rfl rfl ?_
      refine g5 (k := 26) B (vr (some 13)) rfl (fun z => by rw [(hS _ z).1 0 (by decide)]; rfl) rfl q1543 rfl (fun z => by rw [(hS _ z).2 _ (List.mem_of_getElem? (i := 12) rfl)]; rfl) dX5_law_187 ?_
      refine r_iload_n (j := 2) B dX5_law_190 rfl rfl ?_
      obtain ⟨hg14, h⟩ := gd_e h
      refine r_iald B rfl (fun z => (hS _ z).1 13 (by decide)) hg14 dX5_law_191 ?_
      obtain ⟨hg15, h⟩ := gd_e h
      obtain ⟨s16, e17, h⟩ := nam_e h
      refine r_iast B e17 rfl (fun z => (hS _ z).1 2 (by decide)) hg15 dX5_law_192 ?_
      refine r_iinc (j := 2) (v := (x2 + (1))) (L' := [(0, vr (some 0)), (1, vi x1), (2, vi (x2 + (1)))]) B dX5_law_193 rfl rfl (by decide) rfl rfl rfl ?_
      refine r_goto (tgt := 145) B dX5_law_196 (by decide) ?_
      exact ih s16 x1 (x2 + (1)) h
set_option maxHeartbeats 4000000 in
noncomputable def F_X5_law_110 : Nat → St → Int32 → Int32 → Option (Int32 × St)
  | 0 => fun _ _ _ => none
  | n + 1 => fun s x1 x2 => if ((8 : Int32) * (si s 0 22)) ≤ x2 then (F_X5_law_145 FU s x1 (0 : Int32)) else (gd (inb x2 96) <| gd (inb ((x1 + (2 : Int32)) + x2) 5460) <| nam (setI s 2 ((x1 + (2 : Int32)) + x2).toNatClampNeg (si s 11 x2.toNatClampNeg)) fun s4 => F_X5_law_110  n s4 x1 (x2 + (1)))
set_option maxHeartbeats 4000000 in
theorem w_X5_law_110 {X : CX} {E : EV} {a0 s' : St} {r : Int32} (B : FX X E cX5_law 3 (some .int) "RoseThrowModel" "law" (sn a0) (ss a0) 8 174) (hS : ∀ σ, eSk E σ → SkM σ) : ∀ (n : Nat) (s : St) (x1 : Int32) (x2 : Int32), F_X5_law_110   n s x1 x2 = some (r, s') → J X E (sn a0) (ss a0) 3 (QR X E a0 (some (vi r)) s') s 110 [(0, vr (some 0)), (1, vi x1), (2, vi x2)] [] := by
  intro n
  induction n with
  | zero => intro s x1 x2 h; exact absurd (show (none : Option (Int32 × St)) = _ from h) (by simp)
  | succ n ih =>
    intro s x1 x2 h
    rw [F_X5_law_110] at h
    refine r_iload_n (j := 2) B dX5_law_110 rfl rfl ?_
    refine r_bipush (v := 8) B dX5_law_111 (by decide) ?_
    refine r_aload_n (j := 0) B dX5_law_113 rfl rfl ?_
    refine g5 (k := 22) B (vi (si s 0 22)) rfl (fun z => by rw [(hS _ z).1 0 (by decide)]; rfl) rfl q1539 rfl (fun _ => rfl) dX5_law_114 ?_
    refine r_imul B dX5_law_117 ?_
    refine r_ic_ge (tgt := 143) B dX5_law_118 (by decide) (fun cn1 => ?_) (fun cn1 => ?_)
    · have h := ot cn1 h
      refine r_iconst (v := 0) B dX5_law_143 (by decide) ?_
      refine r_istore_n (L' := [(0, vr (some 0)), (1, vi x1), (2, vi (0 : Int32))]) B dX5_law_144 rfl (by decide) rfl rfl rfl ?_
      exact w_X5_law_145 B hS FU s x1 (0 : Int32) h
    · have h := of cn1 h
      refine r_aload_n (j := 0) B dX5_law_121 rfl rfl ?_
      refine g5 (k := 3) B (vr (some 2)) rfl (fun z => by rw [(hS _ z).1 0 (by decide)]; rfl) rfl q1520 rfl (fun z => by rw [(hS _ z).2 _ (List.mem_of_getElem? (i := 1) rfl)]; rfl) dX5_law_122 ?_
      refine r_iload_n (j := 1) B dX5_law_125 rfl rfl ?_
      refine r_iconst (v := 2) B dX5_law_126 (by decide) ?_
      refine r_iadd B dX5_law_127 ?_
      refine r_iload_n (j := 2) B dX5_law_128 rfl rfl ?_
      refine r_iadd B dX5_law_129 ?_
      refine r_aload_n (j := 0) B dX5_law_130 rfl rfl ?_
      refine g5 (k := 23) B (vr (some 11)) rfl (fun z => by rw [(hS _ z).1 0 (by decide)]; rfl) rfl q1540 rfl (fun z => by rw [(hS _ z).2 _ (List.mem_of_getElem? (i := 10) rfl)]; rfl) dX5_law_131 ?_
      refine r_iload_n (j := 2) B dX5_law_134 rfl rfl ?_
      obtain ⟨hg2, h⟩ := gd_e h
      refine r_iald B rfl (fun z => (hS _ z).1 11 (by decide)) hg2 dX5_law_135 ?_
      obtain ⟨hg3, h⟩ := gd_e h
      obtain ⟨s4, e5, h⟩ := nam_e h
      refine r_iast B e5 rfl (fun z => (hS _ z).1 2 (by decide)) hg3 dX5_law_136 ?_
      refine r_iinc (j := 2) (v := (x2 + (1))) (L' := [(0, vr (some 0)), (1, vi x1), (2, vi (x2 + (1)))]) B dX5_law_137 rfl rfl (by decide) rfl rfl rfl ?_
      refine r_goto (tgt := 110) B dX5_law_140 (by decide) ?_
      exact ih s4 x1 (x2 + (1)) h
set_option maxHeartbeats 4000000 in
noncomputable def F_X5_law_64 (s : St)  : Option (Int32 × St) := bnd (F_X5_endText s) fun _ s2 => if (si s2 0 20) = 0 then (gd (inb (2 : Int32) 5460) <| nam ((60 : Int32) + ((900 : Int32) * (si s2 2 (2 : Int32).toNatClampNeg))) fun y6 => gd (inb (y6 + (1 : Int32)) 5460) <| nam (setI s2 2 (y6 + (1 : Int32)).toNatClampNeg (si s2 0 22)) fun s9 => F_X5_law_110 FU s9 y6 (0 : Int32)) else (bnd (F_X5_tell s2 (-6 : Int32)) fun r11 s12 => some (r11, s12))
set_option maxHeartbeats 4000000 in
theorem w_X5_law_64 {X : CX} {E : EV} {a0 s' : St} {r : Int32} (B : FX X E cX5_law 3 (some .int) "RoseThrowModel" "law" (sn a0) (ss a0) 8 174) (hS : ∀ σ, eSk E σ → SkM σ) (s : St)  (h : F_X5_law_64   s  = some (r, s')) : J X E (sn a0) (ss a0) 3 (QR X E a0 (some (vi r)) s') s 64 [(0, vr (some 0))] [] := by
  unfold F_X5_law_64 at h
  refine r_aload_n (j := 0) B dX5_law_64 rfl rfl ?_
  obtain ⟨r1, s2, hc3, h⟩ := bnd_e h
  refine r_callV0 (As := []) (rest := []) B rfl rfl EX.same (c_X5_endText B.ge hS hc3) (cw_X5_endText rfl rfl) (fun z => RV.of 5 ((fun z => by rw [(hS _ z).1 0 (by decide)]; rfl) z) rfl rfl qs87) q1973 q1975 rfl dX5_law_65 ?_
  refine r_aload_n (j := 0) B dX5_law_68 rfl rfl ?_
  refine g5 (k := 20) B (vi (si s2 0 20)) rfl (fun z => by rw [(hS _ z).1 0 (by decide)]; rfl) rfl q1537 rfl (fun _ => rfl) dX5_law_69 ?_
  refine r_if_eq (tgt := 82) B dX5_law_72 (by decide) (fun cn4 => ?_) (fun cn4 => ?_)
  · have h := ot cn4 h
    refine r_bipush (v := 60) B dX5_law_82 (by decide) ?_
    refine r_sipush (v := 900) B dX5_law_84 (by decide) ?_
    refine r_aload_n (j := 0) B dX5_law_87 rfl rfl ?_
    refine g5 (k := 3) B (vr (some 2)) rfl (fun z => by rw [(hS _ z).1 0 (by decide)]; rfl) rfl q1520 rfl (fun z => by rw [(hS _ z).2 _ (List.mem_of_getElem? (i := 1) rfl)]; rfl) dX5_law_88 ?_
    refine r_iconst (v := 2) B dX5_law_91 (by decide) ?_
    obtain ⟨hg5, h⟩ := gd_e h
    refine r_iald B rfl (fun z => (hS _ z).1 2 (by decide)) hg5 dX5_law_92 ?_
    refine r_imul B dX5_law_93 ?_
    refine r_iadd B dX5_law_94 ?_
    obtain ⟨y6, e7, h⟩ := nam_e h
    refine r_topi e7 ?_
    refine r_istore_n (L' := [(0, vr (some 0)), (1, vi y6)]) B dX5_law_95 rfl (by decide) rfl rfl rfl ?_
    refine r_aload_n (j := 0) B dX5_law_96 rfl rfl ?_
    refine g5 (k := 3) B (vr (some 2)) rfl (fun z => by rw [(hS _ z).1 0 (by decide)]; rfl) rfl q1520 rfl (fun z => by rw [(hS _ z).2 _ (List.mem_of_getElem? (i := 1) rfl)]; rfl) dX5_law_97 ?_
    refine r_iload_n (j := 1) B dX5_law_100 rfl rfl ?_
    refine r_iconst (v := 1) B dX5_law_101 (by decide) ?_
    refine r_iadd B dX5_law_102 ?_
    refine r_aload_n (j := 0) B dX5_law_103 rfl rfl ?_
    refine g5 (k := 22) B (vi (si s2 0 22)) rfl (fun z => by rw [(hS _ z).1 0 (by decide)]; rfl) rfl q1539 rfl (fun _ => rfl) dX5_law_104 ?_
    obtain ⟨hg8, h⟩ := gd_e h
    obtain ⟨s9, e10, h⟩ := nam_e h
    refine r_iast B e10 rfl (fun z => (hS _ z).1 2 (by decide)) hg8 dX5_law_107 ?_
    refine r_iconst (v := 0) B dX5_law_108 (by decide) ?_
    refine r_istore_n (L' := [(0, vr (some 0)), (1, vi y6), (2, vi (0 : Int32))]) B dX5_law_109 rfl (by decide) rfl rfl rfl ?_
    exact w_X5_law_110 B hS FU s9 y6 (0 : Int32) h
  · have h := of cn4 h
    refine r_aload_n (j := 0) B dX5_law_75 rfl rfl ?_
    refine r_bipush (v := -6) B dX5_law_76 (by decide) ?_
    obtain ⟨r11, s12, hc13, h⟩ := bnd_e h
    refine r_callVv (As := [vi (-6 : Int32)]) (rest := []) B rfl rfl EX.same (c_X5_tell B.ge hS hc13) (cw_X5_tell rfl rfl) (fun z => RV.of 5 ((fun z => by rw [(hS _ z).1 0 (by decide)]; rfl) z) rfl rfl qs47) q1724 q1726 rfl dX5_law_78 ?_
    exact r_iret B dX5_law_81 h
set_option maxHeartbeats 4000000 in
noncomputable def F_X5_law_37 : Nat → St → Option (Int32 × St)
  | 0 => fun _ => none
  | n + 1 => fun s  => if (si s 0 20) = 0 then (bnd (F_X5_isSign s (59 : Int32)) fun r2 s3 => if r2 = 0 then (F_X5_law_64 s3) else (bnd (F_X5_next s3) fun _ s7 => bnd (F_X5_readLaw s7) fun _ s10 => F_X5_law_37  n s10)) else (F_X5_law_64 s)
set_option maxHeartbeats 4000000 in
theorem w_X5_law_37 {X : CX} {E : EV} {a0 s' : St} {r : Int32} (B : FX X E cX5_law 3 (some .int) "RoseThrowModel" "law" (sn a0) (ss a0) 8 174) (hS : ∀ σ, eSk E σ → SkM σ) : ∀ (n : Nat) (s : St) , F_X5_law_37   n s  = some (r, s') → J X E (sn a0) (ss a0) 3 (QR X E a0 (some (vi r)) s') s 37 [(0, vr (some 0))] [] := by
  intro n
  induction n with
  | zero => intro s  h; exact absurd (show (none : Option (Int32 × St)) = _ from h) (by simp)
  | succ n ih =>
    intro s  h
    rw [F_X5_law_37] at h
    refine r_aload_n (j := 0) B dX5_law_37 rfl rfl ?_
    refine g5 (k := 20) B (vi (si s 0 20)) rfl (fun z => by rw [(hS _ z).1 0 (by decide)]; rfl) rfl q1537 rfl (fun _ => rfl) dX5_law_38 ?_
    refine r_if_ne (tgt := 64) B dX5_law_41 (by decide) (fun cn1 => ?_) (fun cn1 => ?_)
    · have h := of cn1 h
      exact w_X5_law_64 B hS s h
    · have h := ot cn1 h
      refine r_aload_n (j := 0) B dX5_law_44 rfl rfl ?_
      refine r_bipush (v := 59) B dX5_law_45 (by decide) ?_
      obtain ⟨r2, s3, hc4, h⟩ := bnd_e h
      refine r_callVv (As := [vi (59 : Int32)]) (rest := []) B rfl rfl EX.same (c_X5_isSign B.ge hS hc4) (cw_X5_isSign rfl rfl) (fun z => RV.of 5 ((fun z => by rw [(hS _ z).1 0 (by decide)]; rfl) z) rfl rfl qs74) q1912 q1914 rfl dX5_law_47 ?_
      refine r_if_eq (tgt := 64) B dX5_law_50 (by decide) (fun cn5 => ?_) (fun cn5 => ?_)
      · have h := ot cn5 h
        exact w_X5_law_64 B hS s3 h
      · have h := of cn5 h
        refine r_aload_n (j := 0) B dX5_law_53 rfl rfl ?_
        obtain ⟨r6, s7, hc8, h⟩ := bnd_e h
        refine r_callV0 (As := []) (rest := []) B rfl rfl EX.same (c_X5_next B.ge hS hc8) (cw_X5_next rfl rfl) (fun z => RV.of 5 ((fun z => by rw [(hS _ z).1 0 (by decide)]; rfl) z) rfl rfl qs67) q1872 q1874 rfl dX5_law_54 ?_
        refine r_aload_n (j := 0) B dX5_law_57 rfl rfl ?_
        obtain ⟨r9, s10, hc11, h⟩ := bnd_e h
        refine r_callV0 (As := []) (rest := []) B rfl rfl EX.same (c_X5_readLaw B.ge hS hc11) (cw_X5_readLaw rfl rfl) (fun z => RV.of 5 ((fun z => by rw [(hS _ z).1 0 (by decide)]; rfl) z) rfl rfl qs68) q1887 q1889 rfl dX5_law_58 ?_
        refine r_goto (tgt := 37) B dX5_law_61 (by decide) ?_
        exact ih s10 h
set_option maxHeartbeats 4000000 in
noncomputable def F_X5_law (s : St)  : Option (Int32 × St) := nam (setI s 0 0 (0 : Int32)) fun s1 => gd (inb (2 : Int32) 5460) <| if (si s1 2 (2 : Int32).toNatClampNeg) = (6 : Int32) then (nam (setI s1 0 14 (0 : Int32)) fun s11 => bnd (F_X5_tell s11 (-5 : Int32)) fun r13 s14 => some (r13, s14)) else (bnd (F_X5_beginText s1 (0 : Int32)) fun _ s6 => bnd (F_X5_readLaw s6) fun _ s9 => F_X5_law_37 FU s9)
set_option maxHeartbeats 4000000 in
theorem c_X5_law {l : Launch} {E : EV} (hE : GE E) (hS : ∀ σ, eSk E σ → SkM σ) {s s' : St} {r : Int32}  (h : F_X5_law  s  = some (r, s')) : CT l E yX5_law cX5_law 3 (some .int) 8 174 [vr (some 0)] s (some (vi r)) s' := by
  refine CT.start hE (by decide) rfl [(0, vr (some 0))] rfl (fun X hX B => ?_)
  skip
  have B : FX X E cX5_law 3 (some .int) "RoseThrowModel" "law" (sn s) (ss s) 8 174 := B
  unfold F_X5_law at h
  refine r_aload_n (j := 0) B dX5_law_0 rfl rfl ?_
  refine r_iconst (v := 0) B dX5_law_1 (by decide) ?_
  obtain ⟨s1, e2, h⟩ := nam_e h
  refine pI5 (k := 0) B e2 rfl (fun z => by rw [(hS _ z).1 0 (by decide)]; rfl) rfl q1517 rfl rfl (fun _ _ _ => rfl) rfl dX5_law_2 ?_
  refine r_aload_n (j := 0) B dX5_law_5 rfl rfl ?_
  refine g5 (k := 3) B (vr (some 2)) rfl (fun z => by rw [(hS _ z).1 0 (by decide)]; rfl) rfl q1520 rfl (fun z => by rw [(hS _ z).2 _ (List.mem_of_getElem? (i := 1) rfl)]; rfl) dX5_law_6 ?_
  refine r_iconst (v := 2) B dX5_law_9 (by decide) ?_
  obtain ⟨hg3, h⟩ := gd_e h
  refine r_iald B rfl (fun z => (hS _ z).1 2 (by decide)) hg3 dX5_law_10 ?_
  refine r_bipush (v := 6) B dX5_law_11 (by decide) ?_
  refine r_ic_ne (tgt := 28) B dX5_law_13 (by decide) (fun cn4 => ?_) (fun cn4 => ?_)
  · have h := of cn4 h
    refine r_aload_n (j := 0) B dX5_law_28 rfl rfl ?_
    refine r_iconst (v := 0) B dX5_law_29 (by decide) ?_
    obtain ⟨r5, s6, hc7, h⟩ := bnd_e h
    refine r_callV0 (As := [vi (0 : Int32)]) (rest := []) B rfl rfl EX.same (c_X5_beginText B.ge hS hc7) (cw_X5_beginText rfl rfl) (fun z => RV.of 5 ((fun z => by rw [(hS _ z).1 0 (by decide)]; rfl) z) rfl rfl qs65) q1864 q1866 rfl dX5_law_30 ?_
    refine r_aload_n (j := 0) B dX5_law_33 rfl rfl ?_
    obtain ⟨r8, s9, hc10, h⟩ := bnd_e h
    refine r_callV0 (As := []) (rest := []) B rfl rfl EX.same (c_X5_readLaw B.ge hS hc10) (cw_X5_readLaw rfl rfl) (fun z => RV.of 5 ((fun z => by rw [(hS _ z).1 0 (by decide)]; rfl) z) rfl rfl qs68) q1887 q1889 rfl dX5_law_34 ?_
    exact w_X5_law_37 B hS FU s9 h
  · have h := ot cn4 h
    refine r_aload_n (j := 0) B dX5_law_16 rfl rfl ?_
    refine r_iconst (v := 0) B dX5_law_17 (by decide) ?_
    obtain ⟨s11, e12, h⟩ := nam_e h
    refine pI5 (k := 14) B e12 rfl (fun z => by rw [(hS _ z).1 0 (by decide)]; rfl) rfl q1531 rfl rfl (fun _ _ _ => rfl) rfl dX5_law_18 ?_
    refine r_aload_n (j := 0) B dX5_law_21 rfl rfl ?_
    refine r_bipush (v := -5) B dX5_law_22 (by decide) ?_
    obtain ⟨r13, s14, hc15, h⟩ := bnd_e h
    refine r_callVv (As := [vi (-5 : Int32)]) (rest := []) B rfl rfl EX.same (c_X5_tell B.ge hS hc15) (cw_X5_tell rfl rfl) (fun z => RV.of 5 ((fun z => by rw [(hS _ z).1 0 (by decide)]; rfl) z) rfl rfl qs47) q1724 q1726 rfl dX5_law_24 ?_
    exact r_iret B dX5_law_27 h
set_option maxHeartbeats 4000000 in
theorem cw_X5_law {X : CX} {fr lo : Nat} (h1 : Nat.ble (8 + 1) fr = true) (h2 : Nat.ble (22 + 174) lo = true) : CW X fr lo yX5_law cX5_law 3 (some .int) 8 174 0 := ⟨q1863, q136, ⟨by decide +kernel, by decide +kernel, by decide +kernel⟩, Nat.le_of_ble_eq_true h1, Nat.le_of_ble_eq_true h2⟩

set_option maxHeartbeats 4000000 in
noncomputable def F_X5_force_28 (s : St) (x1 : Int32) : Option (Int32 × St) := bnd (F_X5_set1 s (3 : Int32) x1) fun r1 s2 => some (r1, s2)
set_option maxHeartbeats 4000000 in
theorem w_X5_force_28 {X : CX} {E : EV} {a0 s' : St} {r : Int32} (B : FX X E cX5_force 2 (some .int) "RoseThrowModel" "force" (sn a0) (ss a0) 2 43) (hS : ∀ σ, eSk E σ → SkM σ) (s : St) (x1 : Int32) (h : F_X5_force_28   s x1 = some (r, s')) : J X E (sn a0) (ss a0) 2 (QR X E a0 (some (vi r)) s') s 28 [(0, vr (some 0)), (1, vi x1)] [] := by
  unfold F_X5_force_28 at h
  refine r_aload_n (j := 0) B dX5_force_28 rfl rfl ?_
  refine r_iconst (v := 3) B dX5_force_29 (by decide) ?_
  refine r_iload_n (j := 1) B dX5_force_30 rfl rfl ?_
  obtain ⟨r1, s2, hc3, h⟩ := bnd_e h
  refine r_callVv (As := [vi (3 : Int32), vi x1]) (rest := []) B rfl rfl EX.same (c_X5_set1 B.ge hS hc3) (cw_X5_set1 rfl rfl) (fun z => RV.of 5 ((fun z => by rw [(hS _ z).1 0 (by decide)]; rfl) z) rfl rfl qs63) q1817 q1819 rfl dX5_force_31 ?_
  refine r_goto (tgt := 43) B dX5_force_34 (by decide) ?_
  exact r_iret B dX5_force_43 h
set_option maxHeartbeats 4000000 in
noncomputable def F_X5_force (s : St) (p0 : Int32) : Option (Int32 × St) := nam (setI s 0 0 (0 : Int32)) fun s1 => if p0 = (-1 : Int32) then (F_X5_force_28 s1 p0) else (gd (inb (2 : Int32) 5460) <| bnd (F_X5_in s1 ((p0).toInt64) (0 : Int64) ((((si s1 2 (2 : Int32).toNatClampNeg)).toInt64) - (1 : Int64))) fun r5 s6 => if r5 = 0 then (bnd (F_X5_tell s6 (-2 : Int32)) fun r9 s10 => some (r9, s10)) else (F_X5_force_28 s6 p0))
set_option maxHeartbeats 4000000 in
theorem c_X5_force {l : Launch} {E : EV} (hE : GE E) (hS : ∀ σ, eSk E σ → SkM σ) {s s' : St} {r : Int32} {p0 : Int32} (h : F_X5_force  s p0 = some (r, s')) : CT l E yX5_force cX5_force 2 (some .int) 2 43 [vr (some 0), vi p0] s (some (vi r)) s' := by
  refine CT.start hE (by decide) rfl [(0, vr (some 0)), (1, vi p0)] rfl (fun X hX B => ?_)
  skip
  have B : FX X E cX5_force 2 (some .int) "RoseThrowModel" "force" (sn s) (ss s) 2 43 := B
  unfold F_X5_force at h
  refine r_aload_n (j := 0) B dX5_force_0 rfl rfl ?_
  refine r_iconst (v := 0) B dX5_force_1 (by decide) ?_
  obtain ⟨s1, e2, h⟩ := nam_e h
  refine pI5 (k := 0) B e2 rfl (fun z => by rw [(hS _ z).1 0 (by decide)]; rfl) rfl q1517 rfl rfl (fun _ _ _ => rfl) rfl dX5_force_2 ?_
  refine r_iload_n (j := 1) B dX5_force_5 rfl rfl ?_
  refine r_iconst (v := -1) B dX5_force_6 (by decide) ?_
  refine r_ic_eq (tgt := 28) B dX5_force_7 (by decide) (fun cn3 => ?_) (fun cn3 => ?_)
  · have h := ot cn3 h
    exact w_X5_force_28 B hS s1 p0 h
  · have h := of cn3 h
    refine r_iload_n (j := 1) B dX5_force_10 rfl rfl ?_
    refine r_i2l B dX5_force_11 ?_
    refine r_lconst (v := 0) B dX5_force_12 (by decide) ?_
    refine r_aload_n (j := 0) B dX5_force_13 rfl rfl ?_
    refine g5 (k := 3) B (vr (some 2)) rfl (fun z => by rw [(hS _ z).1 0 (by decide)]; rfl) rfl q1520 rfl (fun z => by rw [(hS _ z).2 _ (List.mem_of_getElem? (i := 1) rfl)]; rfl) dX5_force_14 ?_
    refine r_iconst (v := 2) B dX5_force_17 (by decide) ?_
    obtain ⟨hg4, h⟩ := gd_e h
    refine r_iald B rfl (fun z => (hS _ z).1 2 (by decide)) hg4 dX5_force_18 ?_
    refine r_i2l B dX5_force_19 ?_
    refine r_lconst (v := 1) B dX5_force_20 (by decide) ?_
    refine r_lsub B dX5_force_21 ?_
    obtain ⟨r5, s6, hc7, h⟩ := bnd_e h
    refine r_callSv (As := [vl ((p0).toInt64), vl (0 : Int64), vl ((((si s1 2 (2 : Int32).toNatClampNeg)).toInt64) - (1 : Int64))]) (rest := []) B rfl EX.same (c_X5_in B.ge hS hc7) (cw_X5_in rfl rfl) q1740 q1741 rfl dX5_force_22 ?_
    refine r_if_eq (tgt := 37) B dX5_force_25 (by decide) (fun cn8 => ?_) (fun cn8 => ?_)
    · have h := ot cn8 h
      refine r_aload_n (j := 0) B dX5_force_37 rfl rfl ?_
      refine r_bipush (v := -2) B dX5_force_38 (by decide) ?_
      obtain ⟨r9, s10, hc11, h⟩ := bnd_e h
      refine r_callVv (As := [vi (-2 : Int32)]) (rest := []) B rfl rfl EX.same (c_X5_tell B.ge hS hc11) (cw_X5_tell rfl rfl) (fun z => RV.of 5 ((fun z => by rw [(hS _ z).1 0 (by decide)]; rfl) z) rfl rfl qs47) q1724 q1726 rfl dX5_force_40 ?_
      exact r_iret B dX5_force_43 h
    · have h := of cn8 h
      exact w_X5_force_28 B hS s6 p0 h
set_option maxHeartbeats 4000000 in
theorem cw_X5_force {X : CX} {fr lo : Nat} (h1 : Nat.ble (2 + 1) fr = true) (h2 : Nat.ble (21 + 43) lo = true) : CW X fr lo yX5_force cX5_force 2 (some .int) 2 43 1 := ⟨q1980, q136, ⟨by decide +kernel, by decide +kernel, by decide +kernel⟩, Nat.le_of_ble_eq_true h1, Nat.le_of_ble_eq_true h2⟩

set_option maxHeartbeats 4000000 in
noncomputable def F_X5_within (s : St) (p0 : Int64) (p1 : Int32) (p2 : Int32) : Option (Int32 × St) := if ((p1).toInt64) ≤ p0 then (if p0 ≤ ((p2).toInt64) then (some (((p0).toInt32), s)) else (some (p2, s))) else (some (p1, s))
set_option maxHeartbeats 4000000 in
theorem c_X5_within {l : Launch} {E : EV} (hE : GE E) (hS : ∀ σ, eSk E σ → SkM σ) {s s' : St} {r : Int32} {p0 : Int64} {p1 : Int32} {p2 : Int32} (h : F_X5_within  s p0 p1 p2 = some (r, s')) : CT l E yX5_within cX5_within 4 (some .int) 0 0 [vl p0, vi p1, vi p2] s (some (vi r)) s' := by
  refine CT.start hE (by decide) rfl [(0, vl p0), (2, vi p1), (3, vi p2)] rfl (fun X hX B => ?_)
  skip
  have B : FX X E cX5_within 4 (some .int) "RoseThrowModel" "within" (sn s) (ss s) 0 0 := B
  unfold F_X5_within at h
  refine r_lload_n (j := 0) B dX5_within_0 rfl rfl ?_
  refine r_iload_n (j := 1) B dX5_within_1 rfl rfl ?_
  refine r_i2l B dX5_within_2 ?_
  refine r_lcmp B dX5_within_3 ?_
  refine r_if_ge (tgt := 11) B dX5_within_4 (by decide) (fun cn1 => ?_) (fun cn1 => ?_)
  · have h := ot (lc_ge.mp cn1) h
    refine r_lload_n (j := 0) B dX5_within_11 rfl rfl ?_
    refine r_iload_n (j := 2) B dX5_within_12 rfl rfl ?_
    refine r_i2l B dX5_within_13 ?_
    refine r_lcmp B dX5_within_14 ?_
    refine r_if_le (tgt := 22) B dX5_within_15 (by decide) (fun cn2 => ?_) (fun cn2 => ?_)
    · have h := ot (lc_le.mp cn2) h
      refine r_lload_n (j := 0) B dX5_within_22 rfl rfl ?_
      refine r_l2i B dX5_within_23 ?_
      exact r_iret B dX5_within_24 h
    · have h := of (fun z => cn2 (lc_le.mpr z)) h
      refine r_iload_n (j := 2) B dX5_within_18 rfl rfl ?_
      refine r_goto (tgt := 24) B dX5_within_19 (by decide) ?_
      exact r_iret B dX5_within_24 h
  · have h := of (fun z => cn1 (lc_ge.mpr z)) h
    refine r_iload_n (j := 1) B dX5_within_7 rfl rfl ?_
    refine r_goto (tgt := 24) B dX5_within_8 (by decide) ?_
    exact r_iret B dX5_within_24 h
set_option maxHeartbeats 4000000 in
theorem cw_X5_within {X : CX} {fr lo : Nat} (h1 : Nat.ble (0 + 1) fr = true) (h2 : Nat.ble (23 + 0) lo = true) : CW X fr lo yX5_within cX5_within 4 (some .int) 0 0 3 := ⟨q1991, q136, ⟨by decide +kernel, by decide +kernel, by decide +kernel⟩, Nat.le_of_ble_eq_true h1, Nat.le_of_ble_eq_true h2⟩

set_option maxHeartbeats 4000000 in
noncomputable def F_X5_gripOf (s : St) (p0 : Int32) (p1 : Int32) : Option (Int32 × St) := bnd (F_X5_ofCatcher s p0 (2 : Int32)) fun r1 s2 => bnd (F_X5_ofCatcher s2 p0 (1 : Int32)) fun r4 s5 => bnd (F_X5_setCatcher s5 p0 r1 r4) fun _ s8 => gd (inb (10 : Int32) 15) <| nam (setL s8 19 (10 : Int32).toNatClampNeg ((p1).toInt64)) fun s11 => bnd (F_X5_ofCatcher s11 p0 (2 : Int32)) fun r13 s14 => bnd (F_X5_tells s14 (1 : Int32) ((r13).toInt64)) fun r16 s17 => bnd (F_X5_within s17 r16 (0 : Int32) (99 : Int32)) fun r19 s20 => some (r19, s20)
set_option maxHeartbeats 4000000 in
theorem c_X5_gripOf {l : Launch} {E : EV} (hE : GE E) (hS : ∀ σ, eSk E σ → SkM σ) {s s' : St} {r : Int32} {p0 : Int32} {p1 : Int32} (h : F_X5_gripOf  s p0 p1 = some (r, s')) : CT l E yX5_gripOf cX5_gripOf 3 (some .int) 5 120 [vr (some 0), vi p0, vi p1] s (some (vi r)) s' := by
  refine CT.start hE (by decide) rfl [(0, vr (some 0)), (1, vi p0), (2, vi p1)] rfl (fun X hX B => ?_)
  skip
  have B : FX X E cX5_gripOf 3 (some .int) "RoseThrowModel" "gripOf" (sn s) (ss s) 5 120 := B
  unfold F_X5_gripOf at h
  refine r_aload_n (j := 0) B dX5_gripOf_0 rfl rfl ?_
  refine r_iload_n (j := 1) B dX5_gripOf_1 rfl rfl ?_
  refine r_aload_n (j := 0) B dX5_gripOf_2 rfl rfl ?_
  refine r_iload_n (j := 1) B dX5_gripOf_3 rfl rfl ?_
  refine r_iconst (v := 2) B dX5_gripOf_4 (by decide) ?_
  obtain ⟨r1, s2, hc3, h⟩ := bnd_e h
  refine r_callVv (As := [vi p0, vi (2 : Int32)]) (rest := [vi p0, vr (some 0)]) B rfl rfl EX.same (c_X5_ofCatcher B.ge hS hc3) (cw_X5_ofCatcher rfl rfl) (fun z => RV.of 5 ((fun z => by rw [(hS _ z).1 0 (by decide)]; rfl) z) rfl rfl qs52) q1766 q1768 rfl dX5_gripOf_5 ?_
  refine r_aload_n (j := 0) B dX5_gripOf_8 rfl rfl ?_
  refine r_iload_n (j := 1) B dX5_gripOf_9 rfl rfl ?_
  refine r_iconst (v := 1) B dX5_gripOf_10 (by decide) ?_
  obtain ⟨r4, s5, hc6, h⟩ := bnd_e h
  refine r_callVv (As := [vi p0, vi (1 : Int32)]) (rest := [vi r1, vi p0, vr (some 0)]) B rfl rfl EX.same (c_X5_ofCatcher B.ge hS hc6) (cw_X5_ofCatcher rfl rfl) (fun z => RV.of 5 ((fun z => by rw [(hS _ z).1 0 (by decide)]; rfl) z) rfl rfl qs52) q1766 q1768 rfl dX5_gripOf_11 ?_
  obtain ⟨r7, s8, hc9, h⟩ := bnd_e h
  refine r_callV0 (As := [vi p0, vi r1, vi r4]) (rest := []) B rfl rfl EX.same (c_X5_setCatcher B.ge hS hc9) (cw_X5_setCatcher rfl rfl) (fun z => RV.of 5 ((fun z => by rw [(hS _ z).1 0 (by decide)]; rfl) z) rfl rfl qs54) q1774 q1776 rfl dX5_gripOf_14 ?_
  refine r_aload_n (j := 0) B dX5_gripOf_17 rfl rfl ?_
  refine g5 (k := 36) B (vr (some 19)) rfl (fun z => by rw [(hS _ z).1 0 (by decide)]; rfl) rfl q1553 rfl (fun z => by rw [(hS _ z).2 _ (List.mem_of_getElem? (i := 18) rfl)]; rfl) dX5_gripOf_18 ?_
  refine r_bipush (v := 10) B dX5_gripOf_21 (by decide) ?_
  refine r_iload_n (j := 2) B dX5_gripOf_23 rfl rfl ?_
  refine r_i2l B dX5_gripOf_24 ?_
  obtain ⟨hg10, h⟩ := gd_e h
  obtain ⟨s11, e12, h⟩ := nam_e h
  refine r_last B e12 rfl (fun z => (hS _ z).1 19 (by decide)) hg10 dX5_gripOf_25 ?_
  refine r_aload_n (j := 0) B dX5_gripOf_26 rfl rfl ?_
  refine r_iconst (v := 1) B dX5_gripOf_27 (by decide) ?_
  refine r_aload_n (j := 0) B dX5_gripOf_28 rfl rfl ?_
  refine r_iload_n (j := 1) B dX5_gripOf_29 rfl rfl ?_
  refine r_iconst (v := 2) B dX5_gripOf_30 (by decide) ?_
  obtain ⟨r13, s14, hc15, h⟩ := bnd_e h
  refine r_callVv (As := [vi p0, vi (2 : Int32)]) (rest := [vi (1 : Int32), vr (some 0)]) B rfl rfl EX.same (c_X5_ofCatcher B.ge hS hc15) (cw_X5_ofCatcher rfl rfl) (fun z => RV.of 5 ((fun z => by rw [(hS _ z).1 0 (by decide)]; rfl) z) rfl rfl qs52) q1766 q1768 rfl dX5_gripOf_31 ?_
  refine r_i2l B dX5_gripOf_34 ?_
  obtain ⟨r16, s17, hc18, h⟩ := bnd_e h
  refine r_callVv (As := [vi (1 : Int32), vl ((r13).toInt64)]) (rest := []) B rfl rfl EX.same (c_X5_tells B.ge hS hc18) (cw_X5_tells rfl rfl) (fun z => RV.of 5 ((fun z => by rw [(hS _ z).1 0 (by decide)]; rfl) z) rfl rfl qs57) q1787 q1789 rfl dX5_gripOf_35 ?_
  refine r_iconst (v := 0) B dX5_gripOf_38 (by decide) ?_
  refine r_bipush (v := 99) B dX5_gripOf_39 (by decide) ?_
  obtain ⟨r19, s20, hc21, h⟩ := bnd_e h
  refine r_callSv (As := [vl r16, vi (0 : Int32), vi (99 : Int32)]) (rest := []) B rfl EX.same (c_X5_within B.ge hS hc21) (cw_X5_within rfl rfl) q1989 q1990 rfl dX5_gripOf_41 ?_
  exact r_iret B dX5_gripOf_44 h
set_option maxHeartbeats 4000000 in
theorem cw_X5_gripOf {X : CX} {fr lo : Nat} (h1 : Nat.ble (5 + 1) fr = true) (h2 : Nat.ble (22 + 120) lo = true) : CW X fr lo yX5_gripOf cX5_gripOf 3 (some .int) 5 120 2 := ⟨q1988, q136, ⟨by decide +kernel, by decide +kernel, by decide +kernel⟩, Nat.le_of_ble_eq_true h1, Nat.le_of_ble_eq_true h2⟩

set_option maxHeartbeats 4000000 in
noncomputable def F_X5_wedOf (s : St) (p0 : Int32) (p1 : Int32) : Option (Int32 × St) := bnd (F_X5_ofCatcher s p0 (2 : Int32)) fun r1 s2 => bnd (F_X5_ofCatcher s2 p0 (1 : Int32)) fun r4 s5 => bnd (F_X5_setCatcher s5 p0 r1 r4) fun _ s8 => gd (inb (11 : Int32) 15) <| nam (setL s8 19 (11 : Int32).toNatClampNeg ((p1).toInt64)) fun s11 => bnd (F_X5_tells s11 (2 : Int32) (25 : Int64)) fun r13 s14 => bnd (F_X5_within s14 r13 (0 : Int32) (100 : Int32)) fun r16 s17 => some (r16, s17)
set_option maxHeartbeats 4000000 in
theorem c_X5_wedOf {l : Launch} {E : EV} (hE : GE E) (hS : ∀ σ, eSk E σ → SkM σ) {s s' : St} {r : Int32} {p0 : Int32} {p1 : Int32} (h : F_X5_wedOf  s p0 p1 = some (r, s')) : CT l E yX5_wedOf cX5_wedOf 3 (some .int) 5 120 [vr (some 0), vi p0, vi p1] s (some (vi r)) s' := by
  refine CT.start hE (by decide) rfl [(0, vr (some 0)), (1, vi p0), (2, vi p1)] rfl (fun X hX B => ?_)
  skip
  have B : FX X E cX5_wedOf 3 (some .int) "RoseThrowModel" "wedOf" (sn s) (ss s) 5 120 := B
  unfold F_X5_wedOf at h
  refine r_aload_n (j := 0) B dX5_wedOf_0 rfl rfl ?_
  refine r_iload_n (j := 1) B dX5_wedOf_1 rfl rfl ?_
  refine r_aload_n (j := 0) B dX5_wedOf_2 rfl rfl ?_
  refine r_iload_n (j := 1) B dX5_wedOf_3 rfl rfl ?_
  refine r_iconst (v := 2) B dX5_wedOf_4 (by decide) ?_
  obtain ⟨r1, s2, hc3, h⟩ := bnd_e h
  refine r_callVv (As := [vi p0, vi (2 : Int32)]) (rest := [vi p0, vr (some 0)]) B rfl rfl EX.same (c_X5_ofCatcher B.ge hS hc3) (cw_X5_ofCatcher rfl rfl) (fun z => RV.of 5 ((fun z => by rw [(hS _ z).1 0 (by decide)]; rfl) z) rfl rfl qs52) q1766 q1768 rfl dX5_wedOf_5 ?_
  refine r_aload_n (j := 0) B dX5_wedOf_8 rfl rfl ?_
  refine r_iload_n (j := 1) B dX5_wedOf_9 rfl rfl ?_
  refine r_iconst (v := 1) B dX5_wedOf_10 (by decide) ?_
  obtain ⟨r4, s5, hc6, h⟩ := bnd_e h
  refine r_callVv (As := [vi p0, vi (1 : Int32)]) (rest := [vi r1, vi p0, vr (some 0)]) B rfl rfl EX.same (c_X5_ofCatcher B.ge hS hc6) (cw_X5_ofCatcher rfl rfl) (fun z => RV.of 5 ((fun z => by rw [(hS _ z).1 0 (by decide)]; rfl) z) rfl rfl qs52) q1766 q1768 rfl dX5_wedOf_11 ?_
  obtain ⟨r7, s8, hc9, h⟩ := bnd_e h
  refine r_callV0 (As := [vi p0, vi r1, vi r4]) (rest := []) B rfl rfl EX.same (c_X5_setCatcher B.ge hS hc9) (cw_X5_setCatcher rfl rfl) (fun z => RV.of 5 ((fun z => by rw [(hS _ z).1 0 (by decide)]; rfl) z) rfl rfl qs54) q1774 q1776 rfl dX5_wedOf_14 ?_
  refine r_aload_n (j := 0) B dX5_wedOf_17 rfl rfl ?_
  refine g5 (k := 36) B (vr (some 19)) rfl (fun z => by rw [(hS _ z).1 0 (by decide)]; rfl) rfl q1553 rfl (fun z => by rw [(hS _ z).2 _ (List.mem_of_getElem? (i := 18) rfl)]; rfl) dX5_wedOf_18 ?_
  refine r_bipush (v := 11) B dX5_wedOf_21 (by decide) ?_
  refine r_iload_n (j := 2) B dX5_wedOf_23 rfl rfl ?_
  refine r_i2l B dX5_wedOf_24 ?_
  obtain ⟨hg10, h⟩ := gd_e h
  obtain ⟨s11, e12, h⟩ := nam_e h
  refine r_last B e12 rfl (fun z => (hS _ z).1 19 (by decide)) hg10 dX5_wedOf_25 ?_
  refine r_aload_n (j := 0) B dX5_wedOf_26 rfl rfl ?_
  refine r_iconst (v := 2) B dX5_wedOf_27 (by decide) ?_
  refine r_ldc2 B dX5_wedOf_28 q1506 ?_
  obtain ⟨r13, s14, hc15, h⟩ := bnd_e h
  refine r_callVv (As := [vi (2 : Int32), vl (25 : Int64)]) (rest := []) B rfl rfl EX.same (c_X5_tells B.ge hS hc15) (cw_X5_tells rfl rfl) (fun z => RV.of 5 ((fun z => by rw [(hS _ z).1 0 (by decide)]; rfl) z) rfl rfl qs57) q1787 q1789 rfl dX5_wedOf_31 ?_
  refine r_iconst (v := 0) B dX5_wedOf_34 (by decide) ?_
  refine r_bipush (v := 100) B dX5_wedOf_35 (by decide) ?_
  obtain ⟨r16, s17, hc18, h⟩ := bnd_e h
  refine r_callSv (As := [vl r13, vi (0 : Int32), vi (100 : Int32)]) (rest := []) B rfl EX.same (c_X5_within B.ge hS hc18) (cw_X5_within rfl rfl) q1989 q1990 rfl dX5_wedOf_37 ?_
  exact r_iret B dX5_wedOf_40 h
set_option maxHeartbeats 4000000 in
theorem cw_X5_wedOf {X : CX} {fr lo : Nat} (h1 : Nat.ble (5 + 1) fr = true) (h2 : Nat.ble (22 + 120) lo = true) : CW X fr lo yX5_wedOf cX5_wedOf 3 (some .int) 5 120 2 := ⟨q1995, q136, ⟨by decide +kernel, by decide +kernel, by decide +kernel⟩, Nat.le_of_ble_eq_true h1, Nat.le_of_ble_eq_true h2⟩

set_option maxHeartbeats 4000000 in
noncomputable def F_X5_isBarred (s : St) (p0 : Int32) (p1 : Int32) : Option (Int32 × St) := bnd (F_X5_ofCatcher s p0 (2 : Int32)) fun r1 s2 => bnd (F_X5_ofCatcher s2 p0 (1 : Int32)) fun r4 s5 => bnd (F_X5_isBarredBy s5 p0 r1 r4 p1) fun r7 s8 => gd (fits .boolean (.int r7)) <| some (r7, s8)
set_option maxHeartbeats 4000000 in
theorem c_X5_isBarred {l : Launch} {E : EV} (hE : GE E) (hS : ∀ σ, eSk E σ → SkM σ) {s s' : St} {r : Int32} {p0 : Int32} {p1 : Int32} (h : F_X5_isBarred  s p0 p1 = some (r, s')) : CT l E yX5_isBarred cX5_isBarred 3 (some .boolean) 6 144 [vr (some 0), vi p0, vi p1] s (some (vi r)) s' := by
  refine CT.start hE (by decide) rfl [(0, vr (some 0)), (1, vi p0), (2, vi p1)] rfl (fun X hX B => ?_)
  skip
  have B : FX X E cX5_isBarred 3 (some .boolean) "RoseThrowModel" "isBarred" (sn s) (ss s) 6 144 := B
  unfold F_X5_isBarred at h
  refine r_aload_n (j := 0) B dX5_isBarred_0 rfl rfl ?_
  refine r_iload_n (j := 1) B dX5_isBarred_1 rfl rfl ?_
  refine r_aload_n (j := 0) B dX5_isBarred_2 rfl rfl ?_
  refine r_iload_n (j := 1) B dX5_isBarred_3 rfl rfl ?_
  refine r_iconst (v := 2) B dX5_isBarred_4 (by decide) ?_
  obtain ⟨r1, s2, hc3, h⟩ := bnd_e h
  refine r_callVv (As := [vi p0, vi (2 : Int32)]) (rest := [vi p0, vr (some 0)]) B rfl rfl EX.same (c_X5_ofCatcher B.ge hS hc3) (cw_X5_ofCatcher rfl rfl) (fun z => RV.of 5 ((fun z => by rw [(hS _ z).1 0 (by decide)]; rfl) z) rfl rfl qs52) q1766 q1768 rfl dX5_isBarred_5 ?_
  refine r_aload_n (j := 0) B dX5_isBarred_8 rfl rfl ?_
  refine r_iload_n (j := 1) B dX5_isBarred_9 rfl rfl ?_
  refine r_iconst (v := 1) B dX5_isBarred_10 (by decide) ?_
  obtain ⟨r4, s5, hc6, h⟩ := bnd_e h
  refine r_callVv (As := [vi p0, vi (1 : Int32)]) (rest := [vi r1, vi p0, vr (some 0)]) B rfl rfl EX.same (c_X5_ofCatcher B.ge hS hc6) (cw_X5_ofCatcher rfl rfl) (fun z => RV.of 5 ((fun z => by rw [(hS _ z).1 0 (by decide)]; rfl) z) rfl rfl qs52) q1766 q1768 rfl dX5_isBarred_11 ?_
  refine r_iload_n (j := 2) B dX5_isBarred_14 rfl rfl ?_
  obtain ⟨r7, s8, hc9, h⟩ := bnd_e h
  refine r_callVv (As := [vi p0, vi r1, vi r4, vi p1]) (rest := []) B rfl rfl EX.same (c_X5_isBarredBy B.ge hS hc9) (cw_X5_isBarredBy rfl rfl) (fun z => RV.of 5 ((fun z => by rw [(hS _ z).1 0 (by decide)]; rfl) z) rfl rfl qs53) q1770 q1772 rfl dX5_isBarred_15 ?_
  obtain ⟨hg10, h⟩ := gd_e h
  exact r_zret B dX5_isBarred_18 hg10 h
set_option maxHeartbeats 4000000 in
theorem cw_X5_isBarred {X : CX} {fr lo : Nat} (h1 : Nat.ble (6 + 1) fr = true) (h2 : Nat.ble (22 + 144) lo = true) : CW X fr lo yX5_isBarred cX5_isBarred 3 (some .boolean) 6 144 2 := ⟨q1999, q136, ⟨by decide +kernel, by decide +kernel, by decide +kernel⟩, Nat.le_of_ble_eq_true h1, Nat.le_of_ble_eq_true h2⟩

set_option maxHeartbeats 4000000 in
noncomputable def F_X5_asks_50 (s : St) (x1 : Int32) (x2 : Int32) (x3 : Int32) (z0 : Int64) (z1 : Int64) (z2 : Int64) : Option (Int32 × St) := bnd (F_X5_in s z2 z1 z0) fun r1 s2 => if r1 = 0 then (some ((-1 : Int32), s2)) else (if x2 = 0 then (bnd (F_X5_gripOf s2 x1 x3) fun r14 s15 => some (r14, s15)) else (if x2 = (1 : Int32) then (bnd (F_X5_wedOf s2 x1 x3) fun r11 s12 => some (r11, s12)) else (bnd (F_X5_isBarred s2 x1 x3) fun r7 s8 => if r7 = 0 then (some ((0 : Int32), s8)) else (some ((1 : Int32), s8)))))
set_option maxHeartbeats 4000000 in
theorem w_X5_asks_50 {X : CX} {E : EV} {a0 s' : St} {r : Int32} (B : FX X E cX5_asks 4 (some .int) "RoseThrowModel" "asks" (sn a0) (ss a0) 7 166) (hS : ∀ σ, eSk E σ → SkM σ) (s : St) (x1 : Int32) (x2 : Int32) (x3 : Int32) (z0 : Int64) (z1 : Int64) (z2 : Int64) (h : F_X5_asks_50   s x1 x2 x3 z0 z1 z2 = some (r, s')) : J X E (sn a0) (ss a0) 4 (QR X E a0 (some (vi r)) s') s 50 [(0, vr (some 0)), (1, vi x1), (2, vi x2), (3, vi x3)] [vl z0, vl z1, vl z2] := by
  unfold F_X5_asks_50 at h
  obtain ⟨r1, s2, hc3, h⟩ := bnd_e h
  refine r_callSv (As := [vl z2, vl z1, vl z0]) (rest := []) B rfl EX.same (c_X5_in B.ge hS hc3) (cw_X5_in rfl rfl) q1740 q1741 rfl dX5_asks_50 ?_
  refine r_if_ne (tgt := 58) B dX5_asks_53 (by decide) (fun cn4 => ?_) (fun cn4 => ?_)
  · have h := of cn4 h
    refine r_iload_n (j := 2) B dX5_asks_58 rfl rfl ?_
    refine r_if_ne (tgt := 71) B dX5_asks_59 (by decide) (fun cn5 => ?_) (fun cn5 => ?_)
    · have h := of cn5 h
      refine r_iload_n (j := 2) B dX5_asks_71 rfl rfl ?_
      refine r_iconst (v := 1) B dX5_asks_72 (by decide) ?_
      refine r_ic_ne (tgt := 85) B dX5_asks_73 (by decide) (fun cn6 => ?_) (fun cn6 => ?_)
      · have h := of cn6 h
        refine r_aload_n (j := 0) B dX5_asks_85 rfl rfl ?_
        refine r_iload_n (j := 1) B dX5_asks_86 rfl rfl ?_
        refine r_iload_n (j := 3) B dX5_asks_87 rfl rfl ?_
        obtain ⟨r7, s8, hc9, h⟩ := bnd_e h
        refine r_callVv (As := [vi x1, vi x3]) (rest := []) B rfl rfl EX.same (c_X5_isBarred B.ge hS hc9) (cw_X5_isBarred rfl rfl) (fun z => RV.of 5 ((fun z => by rw [(hS _ z).1 0 (by decide)]; rfl) z) rfl rfl qs90) q1996 q1998 rfl dX5_asks_88 ?_
        refine r_if_eq (tgt := 98) B dX5_asks_91 (by decide) (fun cn10 => ?_) (fun cn10 => ?_)
        · have h := ot cn10 h
          refine r_iconst (v := 0) B dX5_asks_98 (by decide) ?_
          exact r_iret B dX5_asks_99 h
        · have h := of cn10 h
          refine r_iconst (v := 1) B dX5_asks_94 (by decide) ?_
          refine r_goto (tgt := 99) B dX5_asks_95 (by decide) ?_
          exact r_iret B dX5_asks_99 h
      · have h := ot cn6 h
        refine r_aload_n (j := 0) B dX5_asks_76 rfl rfl ?_
        refine r_iload_n (j := 1) B dX5_asks_77 rfl rfl ?_
        refine r_iload_n (j := 3) B dX5_asks_78 rfl rfl ?_
        obtain ⟨r11, s12, hc13, h⟩ := bnd_e h
        refine r_callVv (As := [vi x1, vi x3]) (rest := []) B rfl rfl EX.same (c_X5_wedOf B.ge hS hc13) (cw_X5_wedOf rfl rfl) (fun z => RV.of 5 ((fun z => by rw [(hS _ z).1 0 (by decide)]; rfl) z) rfl rfl qs89) q1992 q1994 rfl dX5_asks_79 ?_
        refine r_goto (tgt := 99) B dX5_asks_82 (by decide) ?_
        exact r_iret B dX5_asks_99 h
    · have h := ot cn5 h
      refine r_aload_n (j := 0) B dX5_asks_62 rfl rfl ?_
      refine r_iload_n (j := 1) B dX5_asks_63 rfl rfl ?_
      refine r_iload_n (j := 3) B dX5_asks_64 rfl rfl ?_
      obtain ⟨r14, s15, hc16, h⟩ := bnd_e h
      refine r_callVv (As := [vi x1, vi x3]) (rest := []) B rfl rfl EX.same (c_X5_gripOf B.ge hS hc16) (cw_X5_gripOf rfl rfl) (fun z => RV.of 5 ((fun z => by rw [(hS _ z).1 0 (by decide)]; rfl) z) rfl rfl qs88) q1985 q1987 rfl dX5_asks_65 ?_
      refine r_goto (tgt := 99) B dX5_asks_68 (by decide) ?_
      exact r_iret B dX5_asks_99 h
  · have h := ot cn4 h
    refine r_iconst (v := -1) B dX5_asks_56 (by decide) ?_
    exact r_iret B dX5_asks_57 h
set_option maxHeartbeats 4000000 in
noncomputable def F_X5_asks (s : St) (p0 : Int32) (p1 : Int32) (p2 : Int32) : Option (Int32 × St) := nam (setI s 0 0 (0 : Int32)) fun s1 => bnd (F_X5_isCatcher s1 p0) fun r3 s4 => if r3 = 0 then (some ((-1 : Int32), s4)) else (bnd (F_X5_in s4 ((p1).toInt64) (0 : Int64) (2 : Int64)) fun r7 s8 => if r7 = 0 then (some ((-1 : Int32), s8)) else (if p1 = 0 then (F_X5_asks_50 s8 p0 p1 p2 (10 : Int64) (0 : Int64) ((p2).toInt64)) else (if p1 = (1 : Int32) then (F_X5_asks_50 s8 p0 p1 p2 (1 : Int64) (0 : Int64) ((p2).toInt64)) else (F_X5_asks_50 s8 p0 p1 p2 (35 : Int64) (0 : Int64) ((p2).toInt64)))))
set_option maxHeartbeats 4000000 in
theorem c_X5_asks {l : Launch} {E : EV} (hE : GE E) (hS : ∀ σ, eSk E σ → SkM σ) {s s' : St} {r : Int32} {p0 : Int32} {p1 : Int32} {p2 : Int32} (h : F_X5_asks  s p0 p1 p2 = some (r, s')) : CT l E yX5_asks cX5_asks 4 (some .int) 7 166 [vr (some 0), vi p0, vi p1, vi p2] s (some (vi r)) s' := by
  refine CT.start hE (by decide) rfl [(0, vr (some 0)), (1, vi p0), (2, vi p1), (3, vi p2)] rfl (fun X hX B => ?_)
  skip
  have B : FX X E cX5_asks 4 (some .int) "RoseThrowModel" "asks" (sn s) (ss s) 7 166 := B
  unfold F_X5_asks at h
  refine r_aload_n (j := 0) B dX5_asks_0 rfl rfl ?_
  refine r_iconst (v := 0) B dX5_asks_1 (by decide) ?_
  obtain ⟨s1, e2, h⟩ := nam_e h
  refine pI5 (k := 0) B e2 rfl (fun z => by rw [(hS _ z).1 0 (by decide)]; rfl) rfl q1517 rfl rfl (fun _ _ _ => rfl) rfl dX5_asks_2 ?_
  refine r_aload_n (j := 0) B dX5_asks_5 rfl rfl ?_
  refine r_iload_n (j := 1) B dX5_asks_6 rfl rfl ?_
  obtain ⟨r3, s4, hc5, h⟩ := bnd_e h
  refine r_callVv (As := [vi p0]) (rest := []) B rfl rfl EX.same (c_X5_isCatcher B.ge hS hc5) (cw_X5_isCatcher rfl rfl) (fun z => RV.of 5 ((fun z => by rw [(hS _ z).1 0 (by decide)]; rfl) z) rfl rfl qs60) q1799 q1801 rfl dX5_asks_7 ?_
  refine r_if_eq (tgt := 56) B dX5_asks_10 (by decide) (fun cn6 => ?_) (fun cn6 => ?_)
  · have h := ot cn6 h
    refine r_iconst (v := -1) B dX5_asks_56 (by decide) ?_
    exact r_iret B dX5_asks_57 h
  · have h := of cn6 h
    refine r_iload_n (j := 2) B dX5_asks_13 rfl rfl ?_
    refine r_i2l B dX5_asks_14 ?_
    refine r_lconst (v := 0) B dX5_asks_15 (by decide) ?_
    refine r_ldc2 B dX5_asks_16 q1835 ?_
    obtain ⟨r7, s8, hc9, h⟩ := bnd_e h
    refine r_callSv (As := [vl ((p1).toInt64), vl (0 : Int64), vl (2 : Int64)]) (rest := []) B rfl EX.same (c_X5_in B.ge hS hc9) (cw_X5_in rfl rfl) q1740 q1741 rfl dX5_asks_19 ?_
    refine r_if_eq (tgt := 56) B dX5_asks_22 (by decide) (fun cn10 => ?_) (fun cn10 => ?_)
    · have h := ot cn10 h
      refine r_iconst (v := -1) B dX5_asks_56 (by decide) ?_
      exact r_iret B dX5_asks_57 h
    · have h := of cn10 h
      refine r_iload_n (j := 3) B dX5_asks_25 rfl rfl ?_
      refine r_i2l B dX5_asks_26 ?_
      refine r_lconst (v := 0) B dX5_asks_27 (by decide) ?_
      refine r_iload_n (j := 2) B dX5_asks_28 rfl rfl ?_
      refine r_if_ne (tgt := 38) B dX5_asks_29 (by decide) (fun cn11 => ?_) (fun cn11 => ?_)
      · have h := of cn11 h
        refine r_iload_n (j := 2) B dX5_asks_38 rfl rfl ?_
        refine r_iconst (v := 1) B dX5_asks_39 (by decide) ?_
        refine r_ic_ne (tgt := 47) B dX5_asks_40 (by decide) (fun cn12 => ?_) (fun cn12 => ?_)
        · have h := of cn12 h
          refine r_ldc2 B dX5_asks_47 q1758 ?_
          exact w_X5_asks_50 B hS s8 p0 p1 p2 (35 : Int64) (0 : Int64) ((p2).toInt64) h
        · have h := ot cn12 h
          refine r_lconst (v := 1) B dX5_asks_43 (by decide) ?_
          refine r_goto (tgt := 50) B dX5_asks_44 (by decide) ?_
          exact w_X5_asks_50 B hS s8 p0 p1 p2 (1 : Int64) (0 : Int64) ((p2).toInt64) h
      · have h := ot cn11 h
        refine r_ldc2 B dX5_asks_32 q1885 ?_
        refine r_goto (tgt := 50) B dX5_asks_35 (by decide) ?_
        exact w_X5_asks_50 B hS s8 p0 p1 p2 (10 : Int64) (0 : Int64) ((p2).toInt64) h
set_option maxHeartbeats 4000000 in
theorem cw_X5_asks {X : CX} {fr lo : Nat} (h1 : Nat.ble (7 + 1) fr = true) (h2 : Nat.ble (23 + 166) lo = true) : CW X fr lo yX5_asks cX5_asks 4 (some .int) 7 166 3 := ⟨q1984, q136, ⟨by decide +kernel, by decide +kernel, by decide +kernel⟩, Nat.le_of_ble_eq_true h1, Nat.le_of_ble_eq_true h2⟩

set_option maxHeartbeats 4000000 in
noncomputable def F_X5_cellAt (s : St) (p0 : Int32) (p1 : Int32) : Option (Int32 × St) := bnd (F_X5_in s ((p0).toInt64) (0 : Int64) (5 : Int64)) fun r1 s2 => if r1 = 0 then (some ((36 : Int32), s2)) else (bnd (F_X5_in s2 ((p1).toInt64) (0 : Int64) (5 : Int64)) fun r5 s6 => if r5 = 0 then (some ((36 : Int32), s6)) else (some ((((6 : Int32) * p1) + p0), s6)))
set_option maxHeartbeats 4000000 in
theorem c_X5_cellAt {l : Launch} {E : EV} (hE : GE E) (hS : ∀ σ, eSk E σ → SkM σ) {s s' : St} {r : Int32} {p0 : Int32} {p1 : Int32} (h : F_X5_cellAt  s p0 p1 = some (r, s')) : CT l E yX5_cellAt cX5_cellAt 3 (some .int) 1 25 [vr (some 0), vi p0, vi p1] s (some (vi r)) s' := by
  refine CT.start hE (by decide) rfl [(0, vr (some 0)), (1, vi p0), (2, vi p1)] rfl (fun X hX B => ?_)
  skip
  have B : FX X E cX5_cellAt 3 (some .int) "RoseThrowModel" "cellAt" (sn s) (ss s) 1 25 := B
  unfold F_X5_cellAt at h
  refine r_iload_n (j := 1) B dX5_cellAt_0 rfl rfl ?_
  refine r_i2l B dX5_cellAt_1 ?_
  refine r_lconst (v := 0) B dX5_cellAt_2 (by decide) ?_
  refine r_ldc2 B dX5_cellAt_3 q1833 ?_
  obtain ⟨r1, s2, hc3, h⟩ := bnd_e h
  refine r_callSv (As := [vl ((p0).toInt64), vl (0 : Int64), vl (5 : Int64)]) (rest := []) B rfl EX.same (c_X5_in B.ge hS hc3) (cw_X5_in rfl rfl) q1740 q1741 rfl dX5_cellAt_6 ?_
  refine r_if_eq (tgt := 33) B dX5_cellAt_9 (by decide) (fun cn4 => ?_) (fun cn4 => ?_)
  · have h := ot cn4 h
    refine r_bipush (v := 36) B dX5_cellAt_33 (by decide) ?_
    exact r_iret B dX5_cellAt_35 h
  · have h := of cn4 h
    refine r_iload_n (j := 2) B dX5_cellAt_12 rfl rfl ?_
    refine r_i2l B dX5_cellAt_13 ?_
    refine r_lconst (v := 0) B dX5_cellAt_14 (by decide) ?_
    refine r_ldc2 B dX5_cellAt_15 q1833 ?_
    obtain ⟨r5, s6, hc7, h⟩ := bnd_e h
    refine r_callSv (As := [vl ((p1).toInt64), vl (0 : Int64), vl (5 : Int64)]) (rest := []) B rfl EX.same (c_X5_in B.ge hS hc7) (cw_X5_in rfl rfl) q1740 q1741 rfl dX5_cellAt_18 ?_
    refine r_if_eq (tgt := 33) B dX5_cellAt_21 (by decide) (fun cn8 => ?_) (fun cn8 => ?_)
    · have h := ot cn8 h
      refine r_bipush (v := 36) B dX5_cellAt_33 (by decide) ?_
      exact r_iret B dX5_cellAt_35 h
    · have h := of cn8 h
      refine r_bipush (v := 6) B dX5_cellAt_24 (by decide) ?_
      refine r_iload_n (j := 2) B dX5_cellAt_26 rfl rfl ?_
      refine r_imul B dX5_cellAt_27 ?_
      refine r_iload_n (j := 1) B dX5_cellAt_28 rfl rfl ?_
      refine r_iadd B dX5_cellAt_29 ?_
      refine r_goto (tgt := 35) B dX5_cellAt_30 (by decide) ?_
      exact r_iret B dX5_cellAt_35 h
set_option maxHeartbeats 4000000 in
theorem cw_X5_cellAt {X : CX} {fr lo : Nat} (h1 : Nat.ble (1 + 1) fr = true) (h2 : Nat.ble (22 + 25) lo = true) : CW X fr lo yX5_cellAt cX5_cellAt 3 (some .int) 1 25 2 := ⟨q2019, q136, ⟨by decide +kernel, by decide +kernel, by decide +kernel⟩, Nat.le_of_ble_eq_true h1, Nat.le_of_ble_eq_true h2⟩

set_option maxHeartbeats 4000000 in
noncomputable def F_X5_isLit_68 (k31 : St → Int32 → Int32 → Int32 → Int32 → Option (Int32 × St)) (s : St) (x1 : Int32) (x2 : Int32) (x4 : Int32) : Option (Int32 × St) := k31 s x1 x2 (1 : Int32) (x4 + (1))
set_option maxHeartbeats 4000000 in
theorem w_X5_isLit_68 {X : CX} {E : EV} {a0 s' : St} {r : Int32} (B : FX X E cX5_isLit 5 (some .boolean) "RoseThrowModel" "isLit" (sn a0) (ss a0) 2 47) (hS : ∀ σ, eSk E σ → SkM σ) (k31 : St → Int32 → Int32 → Int32 → Int32 → Option (Int32 × St)) (hk31 : ∀ (s : St) (x1 : Int32) (x2 : Int32) (x3 : Int32) (x4 : Int32), k31 s x1 x2 x3 x4 = some (r, s') → J X E (sn a0) (ss a0) 5 (QR X E a0 (some (vi r)) s') s 31 [(0, vr (some 0)), (1, vi x1), (2, vi x2), (3, vi x3), (4, vi x4)] []) (s : St) (x1 : Int32) (x2 : Int32) (x4 : Int32) (h : F_X5_isLit_68  k31 s x1 x2 x4 = some (r, s')) : J X E (sn a0) (ss a0) 5 (QR X E a0 (some (vi r)) s') s 68 [(0, vr (some 0)), (1, vi x1), (2, vi x2), (4, vi x4)] [] := by
  unfold F_X5_isLit_68 at h
  refine r_iconst (v := 1) B dX5_isLit_68 (by decide) ?_
  refine r_goto (tgt := 73) B dX5_isLit_69 (by decide) ?_
  refine r_istore_n (L' := [(0, vr (some 0)), (1, vi x1), (2, vi x2), (3, vi (1 : Int32)), (4, vi x4)]) B dX5_isLit_73 rfl (by decide) rfl rfl rfl ?_
  refine r_iinc (j := 4) (v := (x4 + (1))) (L' := [(0, vr (some 0)), (1, vi x1), (2, vi x2), (3, vi (1 : Int32)), (4, vi (x4 + (1)))]) B dX5_isLit_74 rfl rfl (by decide) rfl rfl rfl ?_
  refine r_goto (tgt := 31) B dX5_isLit_77 (by decide) ?_
  exact hk31 s x1 x2 (1 : Int32) (x4 + (1)) h
set_option maxHeartbeats 4000000 in
noncomputable def F_X5_isLit_31 : Nat → St → Int32 → Int32 → Int32 → Int32 → Option (Int32 × St)
  | 0 => fun _ _ _ _ _ => none
  | n + 1 => fun s x1 x2 x3 x4 => if x1 ≤ x4 then (gd (fits .boolean (.int x3)) <| some (x3, s)) else (if x3 = 0 then (bnd (F_X5_term s (4 : Int32)) fun r4 s5 => gd (nzi x1) <| bnd (F_X5_cellAt s5 (r4 + ((x2 * x4) / x1)) x4) fun r8 s9 => bnd (F_X5_term s9 (6 : Int32)) fun r11 s12 => if r8 = r11 then (F_X5_isLit_68 (F_X5_isLit_31  n) s12 x1 x2 x4) else (F_X5_isLit_31  n s12 x1 x2 (0 : Int32) (x4 + (1)))) else (F_X5_isLit_68 (F_X5_isLit_31  n) s x1 x2 x4))
set_option maxHeartbeats 4000000 in
theorem w_X5_isLit_31 {X : CX} {E : EV} {a0 s' : St} {r : Int32} (B : FX X E cX5_isLit 5 (some .boolean) "RoseThrowModel" "isLit" (sn a0) (ss a0) 2 47) (hS : ∀ σ, eSk E σ → SkM σ) : ∀ (n : Nat) (s : St) (x1 : Int32) (x2 : Int32) (x3 : Int32) (x4 : Int32), F_X5_isLit_31   n s x1 x2 x3 x4 = some (r, s') → J X E (sn a0) (ss a0) 5 (QR X E a0 (some (vi r)) s') s 31 [(0, vr (some 0)), (1, vi x1), (2, vi x2), (3, vi x3), (4, vi x4)] [] := by
  intro n
  induction n with
  | zero => intro s x1 x2 x3 x4 h; exact absurd (show (none : Option (Int32 × St)) = _ from h) (by simp)
  | succ n ih =>
    intro s x1 x2 x3 x4 h
    rw [F_X5_isLit_31] at h
    refine r_iload (j := 4) B dX5_isLit_31 rfl ?_
    refine r_iload_n (j := 1) B dX5_isLit_33 rfl rfl ?_
    refine r_ic_ge (tgt := 80) B dX5_isLit_34 (by decide) (fun cn1 => ?_) (fun cn1 => ?_)
    · have h := ot cn1 h
      refine r_iload_n (j := 3) B dX5_isLit_80 rfl rfl ?_
      obtain ⟨hg2, h⟩ := gd_e h
      exact r_zret B dX5_isLit_81 hg2 h
    · have h := of cn1 h
      refine r_iload_n (j := 3) B dX5_isLit_37 rfl rfl ?_
      refine r_if_ne (tgt := 68) B dX5_isLit_38 (by decide) (fun cn3 => ?_) (fun cn3 => ?_)
      · have h := of cn3 h
        refine r_pick [0, 1, 2, 4] (L' := [(0, vr (some 0)), (1, vi x1), (2, vi x2), (4, vi x4)]) rfl ?_
        exact w_X5_isLit_68 B hS (F_X5_isLit_31  n) ih s x1 x2 x4 h
      · have h := ot cn3 h
        refine r_aload_n (j := 0) B dX5_isLit_41 rfl rfl ?_
        refine r_aload_n (j := 0) B dX5_isLit_42 rfl rfl ?_
        refine r_iconst (v := 4) B dX5_isLit_43 (by decide) ?_
        obtain ⟨r4, s5, hc6, h⟩ := bnd_e h
        refine r_callVv (As := [vi (4 : Int32)]) (rest := [vr (some 0)]) B rfl rfl EX.same (c_X5_term B.ge hS hc6) (cw_X5_term rfl rfl) (fun z => RV.of 5 ((fun z => by rw [(hS _ z).1 0 (by decide)]; rfl) z) rfl rfl qs56) q1783 q1785 rfl dX5_isLit_44 ?_
        refine r_iload_n (j := 2) B dX5_isLit_47 rfl rfl ?_
        refine r_iload (j := 4) B dX5_isLit_48 rfl ?_
        refine r_imul B dX5_isLit_50 ?_
        refine r_iload_n (j := 1) B dX5_isLit_51 rfl rfl ?_
        obtain ⟨hg7, h⟩ := gd_e h
        refine r_idiv B dX5_isLit_52 (nzi_e hg7) ?_
        refine r_iadd B dX5_isLit_53 ?_
        refine r_iload (j := 4) B dX5_isLit_54 rfl ?_
        obtain ⟨r8, s9, hc10, h⟩ := bnd_e h
        refine r_callVv (As := [vi (r4 + ((x2 * x4) / x1)), vi x4]) (rest := []) B rfl rfl EX.same (c_X5_cellAt B.ge hS hc10) (cw_X5_cellAt rfl rfl) (fun z => RV.of 5 ((fun z => by rw [(hS _ z).1 0 (by decide)]; rfl) z) rfl rfl qs94) q2016 q2018 rfl dX5_isLit_56 ?_
        refine r_aload_n (j := 0) B dX5_isLit_59 rfl rfl ?_
        refine r_bipush (v := 6) B dX5_isLit_60 (by decide) ?_
        obtain ⟨r11, s12, hc13, h⟩ := bnd_e h
        refine r_callVv (As := [vi (6 : Int32)]) (rest := [vi r8]) B rfl rfl EX.same (c_X5_term B.ge hS hc13) (cw_X5_term rfl rfl) (fun z => RV.of 5 ((fun z => by rw [(hS _ z).1 0 (by decide)]; rfl) z) rfl rfl qs56) q1783 q1785 rfl dX5_isLit_62 ?_
        refine r_ic_ne (tgt := 72) B dX5_isLit_65 (by decide) (fun cn14 => ?_) (fun cn14 => ?_)
        · have h := of cn14 h
          refine r_iconst (v := 0) B dX5_isLit_72 (by decide) ?_
          refine r_istore_n (L' := [(0, vr (some 0)), (1, vi x1), (2, vi x2), (3, vi (0 : Int32)), (4, vi x4)]) B dX5_isLit_73 rfl (by decide) rfl rfl rfl ?_
          refine r_iinc (j := 4) (v := (x4 + (1))) (L' := [(0, vr (some 0)), (1, vi x1), (2, vi x2), (3, vi (0 : Int32)), (4, vi (x4 + (1)))]) B dX5_isLit_74 rfl rfl (by decide) rfl rfl rfl ?_
          refine r_goto (tgt := 31) B dX5_isLit_77 (by decide) ?_
          exact ih s12 x1 x2 (0 : Int32) (x4 + (1)) h
        · have h := ot cn14 h
          refine r_pick [0, 1, 2, 4] (L' := [(0, vr (some 0)), (1, vi x1), (2, vi x2), (4, vi x4)]) rfl ?_
          exact w_X5_isLit_68 B hS (F_X5_isLit_31  n) ih s12 x1 x2 x4 h
set_option maxHeartbeats 4000000 in
noncomputable def F_X5_isLit (s : St) (p0 : Int32) (p1 : Int32) : Option (Int32 × St) := bnd (F_X5_term s (6 : Int32)) fun r1 s2 => if r1 = (-1 : Int32) then (some ((0 : Int32), s2)) else (bnd (F_X5_term s2 (7 : Int32)) fun r5 s6 => bnd (F_X5_term s6 (2 : Int32)) fun r8 s9 => if r5 ≤ r8 then (F_X5_isLit_31 FU s9 p0 p1 (0 : Int32) (0 : Int32)) else (some ((0 : Int32), s9)))
set_option maxHeartbeats 4000000 in
theorem c_X5_isLit {l : Launch} {E : EV} (hE : GE E) (hS : ∀ σ, eSk E σ → SkM σ) {s s' : St} {r : Int32} {p0 : Int32} {p1 : Int32} (h : F_X5_isLit  s p0 p1 = some (r, s')) : CT l E yX5_isLit cX5_isLit 5 (some .boolean) 2 47 [vr (some 0), vi p0, vi p1] s (some (vi r)) s' := by
  refine CT.start hE (by decide) rfl [(0, vr (some 0)), (1, vi p0), (2, vi p1)] rfl (fun X hX B => ?_)
  skip
  have B : FX X E cX5_isLit 5 (some .boolean) "RoseThrowModel" "isLit" (sn s) (ss s) 2 47 := B
  unfold F_X5_isLit at h
  refine r_aload_n (j := 0) B dX5_isLit_0 rfl rfl ?_
  refine r_bipush (v := 6) B dX5_isLit_1 (by decide) ?_
  obtain ⟨r1, s2, hc3, h⟩ := bnd_e h
  refine r_callVv (As := [vi (6 : Int32)]) (rest := []) B rfl rfl EX.same (c_X5_term B.ge hS hc3) (cw_X5_term rfl rfl) (fun z => RV.of 5 ((fun z => by rw [(hS _ z).1 0 (by decide)]; rfl) z) rfl rfl qs56) q1783 q1785 rfl dX5_isLit_3 ?_
  refine r_iconst (v := -1) B dX5_isLit_6 (by decide) ?_
  refine r_ic_eq (tgt := 24) B dX5_isLit_7 (by decide) (fun cn4 => ?_) (fun cn4 => ?_)
  · have h := ot cn4 h
    refine r_iconst (v := 0) B dX5_isLit_24 (by decide) ?_
    exact r_zret B dX5_isLit_25 (by decide) h
  · have h := of cn4 h
    refine r_aload_n (j := 0) B dX5_isLit_10 rfl rfl ?_
    refine r_bipush (v := 7) B dX5_isLit_11 (by decide) ?_
    obtain ⟨r5, s6, hc7, h⟩ := bnd_e h
    refine r_callVv (As := [vi (7 : Int32)]) (rest := []) B rfl rfl EX.same (c_X5_term B.ge hS hc7) (cw_X5_term rfl rfl) (fun z => RV.of 5 ((fun z => by rw [(hS _ z).1 0 (by decide)]; rfl) z) rfl rfl qs56) q1783 q1785 rfl dX5_isLit_13 ?_
    refine r_aload_n (j := 0) B dX5_isLit_16 rfl rfl ?_
    refine r_iconst (v := 2) B dX5_isLit_17 (by decide) ?_
    obtain ⟨r8, s9, hc10, h⟩ := bnd_e h
    refine r_callVv (As := [vi (2 : Int32)]) (rest := [vi r5]) B rfl rfl EX.same (c_X5_term B.ge hS hc10) (cw_X5_term rfl rfl) (fun z => RV.of 5 ((fun z => by rw [(hS _ z).1 0 (by decide)]; rfl) z) rfl rfl qs56) q1783 q1785 rfl dX5_isLit_18 ?_
    refine r_ic_le (tgt := 26) B dX5_isLit_21 (by decide) (fun cn11 => ?_) (fun cn11 => ?_)
    · have h := ot cn11 h
      refine r_iconst (v := 0) B dX5_isLit_26 (by decide) ?_
      refine r_istore_n (L' := [(0, vr (some 0)), (1, vi p0), (2, vi p1), (3, vi (0 : Int32))]) B dX5_isLit_27 rfl (by decide) rfl rfl rfl ?_
      refine r_iconst (v := 0) B dX5_isLit_28 (by decide) ?_
      refine r_istore (L' := [(0, vr (some 0)), (1, vi p0), (2, vi p1), (3, vi (0 : Int32)), (4, vi (0 : Int32))]) B dX5_isLit_29 (by decide) rfl rfl rfl ?_
      exact w_X5_isLit_31 B hS FU s9 p0 p1 (0 : Int32) (0 : Int32) h
    · have h := of cn11 h
      refine r_iconst (v := 0) B dX5_isLit_24 (by decide) ?_
      exact r_zret B dX5_isLit_25 (by decide) h
set_option maxHeartbeats 4000000 in
theorem cw_X5_isLit {X : CX} {fr lo : Nat} (h1 : Nat.ble (2 + 1) fr = true) (h2 : Nat.ble (24 + 47) lo = true) : CW X fr lo yX5_isLit cX5_isLit 5 (some .boolean) 2 47 2 := ⟨q2015, q136, ⟨by decide +kernel, by decide +kernel, by decide +kernel⟩, Nat.le_of_ble_eq_true h1, Nat.le_of_ble_eq_true h2⟩

set_option maxHeartbeats 4000000 in
noncomputable def F_X5_slipWeighs_95 (s : St) (z0 : Int64) (z1 : Int32) : Option (Int32 × St) := bnd (F_X5_tells s z1 z0) fun r1 s2 => bnd (F_X5_within s2 r1 (0 : Int32) (9 : Int32)) fun r4 s5 => some (r4, s5)
set_option maxHeartbeats 4000000 in
theorem w_X5_slipWeighs_95 {X : CX} {E : EV} {a0 s' : St} {r : Int32} (B : FX X E cX5_slipWeighs 5 (some .int) "RoseThrowModel" "slipWeighs" (sn a0) (ss a0) 5 120) (hS : ∀ σ, eSk E σ → SkM σ) (s : St) (z0 : Int64) (z1 : Int32) (h : F_X5_slipWeighs_95   s z0 z1 = some (r, s')) : J X E (sn a0) (ss a0) 5 (QR X E a0 (some (vi r)) s') s 95 [] [vl z0, vi z1, vr (some 0)] := by
  unfold F_X5_slipWeighs_95 at h
  obtain ⟨r1, s2, hc3, h⟩ := bnd_e h
  refine r_callVv (As := [vi z1, vl z0]) (rest := []) B rfl rfl EX.same (c_X5_tells B.ge hS hc3) (cw_X5_tells rfl rfl) (fun z => RV.of 5 ((fun z => by rw [(hS _ z).1 0 (by decide)]; rfl) z) rfl rfl qs57) q1787 q1789 rfl dX5_slipWeighs_95 ?_
  refine r_iconst (v := 0) B dX5_slipWeighs_98 (by decide) ?_
  refine r_bipush (v := 9) B dX5_slipWeighs_99 (by decide) ?_
  obtain ⟨r4, s5, hc6, h⟩ := bnd_e h
  refine r_callSv (As := [vl r1, vi (0 : Int32), vi (9 : Int32)]) (rest := []) B rfl EX.same (c_X5_within B.ge hS hc6) (cw_X5_within rfl rfl) q1989 q1990 rfl dX5_slipWeighs_101 ?_
  exact r_iret B dX5_slipWeighs_104 h
set_option maxHeartbeats 4000000 in
noncomputable def F_X5_slipWeighs_88 (s : St) (z0 : Int32) : Option (Int32 × St) := F_X5_slipWeighs_95 s (2 : Int64) z0
set_option maxHeartbeats 4000000 in
theorem w_X5_slipWeighs_88 {X : CX} {E : EV} {a0 s' : St} {r : Int32} (B : FX X E cX5_slipWeighs 5 (some .int) "RoseThrowModel" "slipWeighs" (sn a0) (ss a0) 5 120) (hS : ∀ σ, eSk E σ → SkM σ) (s : St) (z0 : Int32) (h : F_X5_slipWeighs_88   s z0 = some (r, s')) : J X E (sn a0) (ss a0) 5 (QR X E a0 (some (vi r)) s') s 88 [] [vi z0, vr (some 0)] := by
  unfold F_X5_slipWeighs_88 at h
  refine r_ldc2 B dX5_slipWeighs_88 q1835 ?_
  refine r_goto (tgt := 95) B dX5_slipWeighs_91 (by decide) ?_
  exact w_X5_slipWeighs_95 B hS s (2 : Int64) z0 h
set_option maxHeartbeats 4000000 in
noncomputable def F_X5_slipWeighs_79 (s : St) (x3 : Int32) (x4 : Int32) (z0 : Int32) : Option (Int32 × St) := if x3 = 0 then (F_X5_slipWeighs_88 s z0) else (if x4 = 0 then (F_X5_slipWeighs_88 s z0) else (F_X5_slipWeighs_95 s (1 : Int64) z0))
set_option maxHeartbeats 4000000 in
theorem w_X5_slipWeighs_79 {X : CX} {E : EV} {a0 s' : St} {r : Int32} (B : FX X E cX5_slipWeighs 5 (some .int) "RoseThrowModel" "slipWeighs" (sn a0) (ss a0) 5 120) (hS : ∀ σ, eSk E σ → SkM σ) (s : St) (x3 : Int32) (x4 : Int32) (z0 : Int32) (h : F_X5_slipWeighs_79   s x3 x4 z0 = some (r, s')) : J X E (sn a0) (ss a0) 5 (QR X E a0 (some (vi r)) s') s 79 [(3, vi x3), (4, vi x4)] [vi z0, vr (some 0)] := by
  unfold F_X5_slipWeighs_79 at h
  refine r_iload_n (j := 0) B dX5_slipWeighs_79 rfl rfl ?_
  refine r_if_eq (tgt := 88) B dX5_slipWeighs_80 (by decide) (fun cn1 => ?_) (fun cn1 => ?_)
  · have h := ot cn1 h
    refine r_pick [] (L' := []) rfl ?_
    exact w_X5_slipWeighs_88 B hS s z0 h
  · have h := of cn1 h
    refine r_iload (j := 1) B dX5_slipWeighs_83 rfl ?_
    refine r_if_ne (tgt := 94) B dX5_slipWeighs_85 (by decide) (fun cn2 => ?_) (fun cn2 => ?_)
    · have h := of cn2 h
      refine r_lconst (v := 1) B dX5_slipWeighs_94 (by decide) ?_
      refine r_pick [] (L' := []) rfl ?_
      exact w_X5_slipWeighs_95 B hS s (1 : Int64) z0 h
    · have h := ot cn2 h
      refine r_pick [] (L' := []) rfl ?_
      exact w_X5_slipWeighs_88 B hS s z0 h
set_option maxHeartbeats 4000000 in
noncomputable def F_X5_slipWeighs (s : St) (p0 : Int32) (p1 : Int32) (p2 : Int32) (p3 : Int32) : Option (Int32 × St) := bnd (F_X5_clearSet s) fun _ s2 => gd (inb (1 : Int32) 15) <| nam (setL s2 19 (1 : Int32).toNatClampNeg ((p0).toInt64)) fun s5 => gd (inb (2 : Int32) 15) <| nam (setL s5 19 (2 : Int32).toNatClampNeg ((p1).toInt64)) fun s8 => bnd (F_X5_term s8 (2 : Int32)) fun r10 s11 => gd (inb (3 : Int32) 15) <| nam (setL s11 19 (3 : Int32).toNatClampNeg ((r10).toInt64)) fun s14 => bnd (F_X5_term s14 (3 : Int32)) fun r16 s17 => gd (inb (4 : Int32) 15) <| nam (setL s17 19 (4 : Int32).toNatClampNeg ((r16).toInt64)) fun s20 => gd (inb (5 : Int32) 15) <| nam (setL s20 19 (5 : Int32).toNatClampNeg ((p2).toInt64)) fun s23 => gd (inb (6 : Int32) 15) <| nam (setL s23 19 (6 : Int32).toNatClampNeg ((p3).toInt64)) fun s26 => if p2 = 0 then (if p3 = 0 then (F_X5_slipWeighs_95 s26 (4 : Int64) (0 : Int32)) else (F_X5_slipWeighs_79 s26 p2 p3 (0 : Int32))) else (F_X5_slipWeighs_79 s26 p2 p3 (0 : Int32))
set_option maxHeartbeats 4000000 in
theorem c_X5_slipWeighs {l : Launch} {E : EV} (hE : GE E) (hS : ∀ σ, eSk E σ → SkM σ) {s s' : St} {r : Int32} {p0 : Int32} {p1 : Int32} {p2 : Int32} {p3 : Int32} (h : F_X5_slipWeighs  s p0 p1 p2 p3 = some (r, s')) : CT l E yX5_slipWeighs cX5_slipWeighs 5 (some .int) 5 120 [vr (some 0), vi p0, vi p1, vi p2, vi p3] s (some (vi r)) s' := by
  refine CT.start hE (by decide) rfl [(0, vr (some 0)), (1, vi p0), (2, vi p1), (3, vi p2), (4, vi p3)] rfl (fun X hX B => ?_)
  skip
  have B : FX X E cX5_slipWeighs 5 (some .int) "RoseThrowModel" "slipWeighs" (sn s) (ss s) 5 120 := B
  unfold F_X5_slipWeighs at h
  refine r_aload_n (j := 0) B dX5_slipWeighs_0 rfl rfl ?_
  obtain ⟨r1, s2, hc3, h⟩ := bnd_e h
  refine r_callV0 (As := []) (rest := []) B rfl rfl EX.same (c_X5_clearSet B.ge hS hc3) (cw_X5_clearSet rfl rfl) (fun z => RV.of 5 ((fun z => by rw [(hS _ z).1 0 (by decide)]; rfl) z) rfl rfl qs55) q1778 q1780 rfl dX5_slipWeighs_1 ?_
  refine r_aload_n (j := 0) B dX5_slipWeighs_4 rfl rfl ?_
  refine g5 (k := 36) B (vr (some 19)) rfl (fun z => by rw [(hS _ z).1 0 (by decide)]; rfl) rfl q1553 rfl (fun z => by rw [(hS _ z).2 _ (List.mem_of_getElem? (i := 18) rfl)]; rfl) dX5_slipWeighs_5 ?_
  refine r_iconst (v := 1) B dX5_slipWeighs_8 (by decide) ?_
  refine r_iload_n (j := 1) B dX5_slipWeighs_9 rfl rfl ?_
  refine r_i2l B dX5_slipWeighs_10 ?_
  obtain ⟨hg4, h⟩ := gd_e h
  obtain ⟨s5, e6, h⟩ := nam_e h
  refine r_last B e6 rfl (fun z => (hS _ z).1 19 (by decide)) hg4 dX5_slipWeighs_11 ?_
  refine r_aload_n (j := 0) B dX5_slipWeighs_12 rfl rfl ?_
  refine g5 (k := 36) B (vr (some 19)) rfl (fun z => by rw [(hS _ z).1 0 (by decide)]; rfl) rfl q1553 rfl (fun z => by rw [(hS _ z).2 _ (List.mem_of_getElem? (i := 18) rfl)]; rfl) dX5_slipWeighs_13 ?_
  refine r_iconst (v := 2) B dX5_slipWeighs_16 (by decide) ?_
  refine r_iload_n (j := 2) B dX5_slipWeighs_17 rfl rfl ?_
  refine r_i2l B dX5_slipWeighs_18 ?_
  obtain ⟨hg7, h⟩ := gd_e h
  obtain ⟨s8, e9, h⟩ := nam_e h
  refine r_last B e9 rfl (fun z => (hS _ z).1 19 (by decide)) hg7 dX5_slipWeighs_19 ?_
  refine r_aload_n (j := 0) B dX5_slipWeighs_20 rfl rfl ?_
  refine g5 (k := 36) B (vr (some 19)) rfl (fun z => by rw [(hS _ z).1 0 (by decide)]; rfl) rfl q1553 rfl (fun z => by rw [(hS _ z).2 _ (List.mem_of_getElem? (i := 18) rfl)]; rfl) dX5_slipWeighs_21 ?_
  refine r_iconst (v := 3) B dX5_slipWeighs_24 (by decide) ?_
  refine r_aload_n (j := 0) B dX5_slipWeighs_25 rfl rfl ?_
  refine r_iconst (v := 2) B dX5_slipWeighs_26 (by decide) ?_
  obtain ⟨r10, s11, hc12, h⟩ := bnd_e h
  refine r_callVv (As := [vi (2 : Int32)]) (rest := [vi (3 : Int32), vr (some 19)]) B rfl rfl EX.same (c_X5_term B.ge hS hc12) (cw_X5_term rfl rfl) (fun z => RV.of 5 ((fun z => by rw [(hS _ z).1 0 (by decide)]; rfl) z) rfl rfl qs56) q1783 q1785 rfl dX5_slipWeighs_27 ?_
  refine r_i2l B dX5_slipWeighs_30 ?_
  obtain ⟨hg13, h⟩ := gd_e h
  obtain ⟨s14, e15, h⟩ := nam_e h
  refine r_last B e15 rfl (fun z => (hS _ z).1 19 (by decide)) hg13 dX5_slipWeighs_31 ?_
  refine r_aload_n (j := 0) B dX5_slipWeighs_32 rfl rfl ?_
  refine g5 (k := 36) B (vr (some 19)) rfl (fun z => by rw [(hS _ z).1 0 (by decide)]; rfl) rfl q1553 rfl (fun z => by rw [(hS _ z).2 _ (List.mem_of_getElem? (i := 18) rfl)]; rfl) dX5_slipWeighs_33 ?_
  refine r_iconst (v := 4) B dX5_slipWeighs_36 (by decide) ?_
  refine r_aload_n (j := 0) B dX5_slipWeighs_37 rfl rfl ?_
  refine r_iconst (v := 3) B dX5_slipWeighs_38 (by decide) ?_
  obtain ⟨r16, s17, hc18, h⟩ := bnd_e h
  refine r_callVv (As := [vi (3 : Int32)]) (rest := [vi (4 : Int32), vr (some 19)]) B rfl rfl EX.same (c_X5_term B.ge hS hc18) (cw_X5_term rfl rfl) (fun z => RV.of 5 ((fun z => by rw [(hS _ z).1 0 (by decide)]; rfl) z) rfl rfl qs56) q1783 q1785 rfl dX5_slipWeighs_39 ?_
  refine r_i2l B dX5_slipWeighs_42 ?_
  obtain ⟨hg19, h⟩ := gd_e h
  obtain ⟨s20, e21, h⟩ := nam_e h
  refine r_last B e21 rfl (fun z => (hS _ z).1 19 (by decide)) hg19 dX5_slipWeighs_43 ?_
  refine r_aload_n (j := 0) B dX5_slipWeighs_44 rfl rfl ?_
  refine g5 (k := 36) B (vr (some 19)) rfl (fun z => by rw [(hS _ z).1 0 (by decide)]; rfl) rfl q1553 rfl (fun z => by rw [(hS _ z).2 _ (List.mem_of_getElem? (i := 18) rfl)]; rfl) dX5_slipWeighs_45 ?_
  refine r_iconst (v := 5) B dX5_slipWeighs_48 (by decide) ?_
  refine r_iload_n (j := 3) B dX5_slipWeighs_49 rfl rfl ?_
  refine r_i2l B dX5_slipWeighs_50 ?_
  obtain ⟨hg22, h⟩ := gd_e h
  obtain ⟨s23, e24, h⟩ := nam_e h
  refine r_last B e24 rfl (fun z => (hS _ z).1 19 (by decide)) hg22 dX5_slipWeighs_51 ?_
  refine r_aload_n (j := 0) B dX5_slipWeighs_52 rfl rfl ?_
  refine g5 (k := 36) B (vr (some 19)) rfl (fun z => by rw [(hS _ z).1 0 (by decide)]; rfl) rfl q1553 rfl (fun z => by rw [(hS _ z).2 _ (List.mem_of_getElem? (i := 18) rfl)]; rfl) dX5_slipWeighs_53 ?_
  refine r_bipush (v := 6) B dX5_slipWeighs_56 (by decide) ?_
  refine r_iload (j := 4) B dX5_slipWeighs_58 rfl ?_
  refine r_i2l B dX5_slipWeighs_60 ?_
  obtain ⟨hg25, h⟩ := gd_e h
  obtain ⟨s26, e27, h⟩ := nam_e h
  refine r_last B e27 rfl (fun z => (hS _ z).1 19 (by decide)) hg25 dX5_slipWeighs_61 ?_
  refine r_aload_n (j := 0) B dX5_slipWeighs_62 rfl rfl ?_
  refine r_iconst (v := 0) B dX5_slipWeighs_63 (by decide) ?_
  refine r_iload_n (j := 3) B dX5_slipWeighs_64 rfl rfl ?_
  refine r_if_ne (tgt := 79) B dX5_slipWeighs_65 (by decide) (fun cn28 => ?_) (fun cn28 => ?_)
  · have h := of cn28 h
    refine r_pick [3, 4] (L' := [(3, vi p2), (4, vi p3)]) rfl ?_
    exact w_X5_slipWeighs_79 B hS s26 p2 p3 (0 : Int32) h
  · have h := ot cn28 h
    refine r_iload (j := 4) B dX5_slipWeighs_68 rfl ?_
    refine r_if_ne (tgt := 79) B dX5_slipWeighs_70 (by decide) (fun cn29 => ?_) (fun cn29 => ?_)
    · have h := of cn29 h
      refine r_pick [3, 4] (L' := [(3, vi p2), (4, vi p3)]) rfl ?_
      exact w_X5_slipWeighs_79 B hS s26 p2 p3 (0 : Int32) h
    · have h := ot cn29 h
      refine r_ldc2 B dX5_slipWeighs_73 q1825 ?_
      refine r_goto (tgt := 95) B dX5_slipWeighs_76 (by decide) ?_
      refine r_pick [] (L' := []) rfl ?_
      exact w_X5_slipWeighs_95 B hS s26 (4 : Int64) (0 : Int32) h
set_option maxHeartbeats 4000000 in
theorem cw_X5_slipWeighs {X : CX} {fr lo : Nat} (h1 : Nat.ble (5 + 1) fr = true) (h2 : Nat.ble (24 + 120) lo = true) : CW X fr lo yX5_slipWeighs cX5_slipWeighs 5 (some .int) 5 120 4 := ⟨q2023, q136, ⟨by decide +kernel, by decide +kernel, by decide +kernel⟩, Nat.le_of_ble_eq_true h1, Nat.le_of_ble_eq_true h2⟩

set_option maxHeartbeats 4000000 in
noncomputable def F_X5_aim_112 (k45 : St → Int32 → Int32 → Int32 → Int32 → Int32 → Option (Unit × St)) (s : St) (x1 : Int32) (x2 : Int32) (x3 : Int32) (x4 : Int32) (x5 : Int32) (z0 : Int32) (z1 : Int32) : Option (Unit × St) := gd (inb z1 9) <| nam (setI s 24 z1.toNatClampNeg z0) fun s2 => gd (inb x5 9) <| gd (inb (si s2 23 x5.toNatClampNeg) 37) <| gd (inb x5 9) <| gd (inb (si s2 23 x5.toNatClampNeg) 37) <| nam (setI s2 22 (si s2 23 x5.toNatClampNeg).toNatClampNeg ((si s2 22 (si s2 23 x5.toNatClampNeg).toNatClampNeg) + (si s2 24 x5.toNatClampNeg))) fun s8 => gd (inb x5 9) <| nam (setI s8 0 45 ((si s8 0 45) + (si s8 24 x5.toNatClampNeg))) fun s11 => k45 s11 x1 x2 x3 x4 (x5 + (1))
set_option maxHeartbeats 4000000 in
theorem w_X5_aim_112 {X : CX} {E : EV} {a0 s' : St} {r : Unit} (B : FX X E cX5_aim 8 none "RoseThrowModel" "aim" (sn a0) (ss a0) 6 144) (hS : ∀ σ, eSk E σ → SkM σ) (k45 : St → Int32 → Int32 → Int32 → Int32 → Int32 → Option (Unit × St)) (hk45 : ∀ (s : St) (x1 : Int32) (x2 : Int32) (x3 : Int32) (x4 : Int32) (x5 : Int32), k45 s x1 x2 x3 x4 x5 = some (r, s') → J X E (sn a0) (ss a0) 8 (QR X E a0 none s') s 45 [(0, vr (some 0)), (1, vi x1), (2, vi x2), (3, vi x3), (4, vi x4), (5, vi x5)] []) (s : St) (x1 : Int32) (x2 : Int32) (x3 : Int32) (x4 : Int32) (x5 : Int32) (z0 : Int32) (z1 : Int32) (h : F_X5_aim_112  k45 s x1 x2 x3 x4 x5 z0 z1 = some (r, s')) : J X E (sn a0) (ss a0) 8 (QR X E a0 none s') s 112 [(0, vr (some 0)), (1, vi x1), (2, vi x2), (3, vi x3), (4, vi x4), (5, vi x5)] [vi z0, vi z1, vr (some 24)] := by
  unfold F_X5_aim_112 at h
  obtain ⟨hg1, h⟩ := gd_e h
  obtain ⟨s2, e3, h⟩ := nam_e h
  refine r_iast B e3 rfl (fun z => (hS _ z).1 24 (by decide)) hg1 dX5_aim_112 ?_
  refine r_aload_n (j := 0) B dX5_aim_113 rfl rfl ?_
  refine g5 (k := 42) B (vr (some 22)) rfl (fun z => by rw [(hS _ z).1 0 (by decide)]; rfl) rfl q1559 rfl (fun z => by rw [(hS _ z).2 _ (List.mem_of_getElem? (i := 21) rfl)]; rfl) dX5_aim_114 ?_
  refine r_aload_n (j := 0) B dX5_aim_117 rfl rfl ?_
  refine g5 (k := 43) B (vr (some 23)) rfl (fun z => by rw [(hS _ z).1 0 (by decide)]; rfl) rfl q1560 rfl (fun z => by rw [(hS _ z).2 _ (List.mem_of_getElem? (i := 22) rfl)]; rfl) dX5_aim_118 ?_
  refine r_iload (j := 5) B dX5_aim_121 rfl ?_
  obtain ⟨hg4, h⟩ := gd_e h
  refine r_iald B rfl (fun z => (hS _ z).1 23 (by decide)) hg4 dX5_aim_123 ?_
  refine r_dup2 B dX5_aim_124 rfl rfl ?_
  obtain ⟨hg5, h⟩ := gd_e h
  refine r_iald B rfl (fun z => (hS _ z).1 22 (by decide)) hg5 dX5_aim_125 ?_
  refine r_aload_n (j := 0) B dX5_aim_126 rfl rfl ?_
  refine g5 (k := 44) B (vr (some 24)) rfl (fun z => by rw [(hS _ z).1 0 (by decide)]; rfl) rfl q1561 rfl (fun z => by rw [(hS _ z).2 _ (List.mem_of_getElem? (i := 23) rfl)]; rfl) dX5_aim_127 ?_
  refine r_iload (j := 5) B dX5_aim_130 rfl ?_
  obtain ⟨hg6, h⟩ := gd_e h
  refine r_iald B rfl (fun z => (hS _ z).1 24 (by decide)) hg6 dX5_aim_132 ?_
  refine r_iadd B dX5_aim_133 ?_
  obtain ⟨hg7, h⟩ := gd_e h
  obtain ⟨s8, e9, h⟩ := nam_e h
  refine r_iast B e9 rfl (fun z => (hS _ z).1 22 (by decide)) hg7 dX5_aim_134 ?_
  refine r_aload_n (j := 0) B dX5_aim_135 rfl rfl ?_
  refine r_dup B dX5_aim_136 rfl ?_
  refine g5 (k := 45) B (vi (si s8 0 45)) rfl (fun z => by rw [(hS _ z).1 0 (by decide)]; rfl) rfl q1562 rfl (fun _ => rfl) dX5_aim_137 ?_
  refine r_aload_n (j := 0) B dX5_aim_140 rfl rfl ?_
  refine g5 (k := 44) B (vr (some 24)) rfl (fun z => by rw [(hS _ z).1 0 (by decide)]; rfl) rfl q1561 rfl (fun z => by rw [(hS _ z).2 _ (List.mem_of_getElem? (i := 23) rfl)]; rfl) dX5_aim_141 ?_
  refine r_iload (j := 5) B dX5_aim_144 rfl ?_
  obtain ⟨hg10, h⟩ := gd_e h
  refine r_iald B rfl (fun z => (hS _ z).1 24 (by decide)) hg10 dX5_aim_146 ?_
  refine r_iadd B dX5_aim_147 ?_
  obtain ⟨s11, e12, h⟩ := nam_e h
  refine pI5 (k := 45) B e12 rfl (fun z => by rw [(hS _ z).1 0 (by decide)]; rfl) rfl q1562 rfl rfl (fun _ _ _ => rfl) rfl dX5_aim_148 ?_
  refine r_iinc (j := 5) (v := (x5 + (1))) (L' := [(0, vr (some 0)), (1, vi x1), (2, vi x2), (3, vi x3), (4, vi x4), (5, vi (x5 + (1)))]) B dX5_aim_151 rfl rfl (by decide) rfl rfl rfl ?_
  refine r_goto (tgt := 45) B dX5_aim_154 (by decide) ?_
  exact hk45 s11 x1 x2 x3 x4 (x5 + (1)) h
set_option maxHeartbeats 4000000 in
noncomputable def F_X5_aim_189 (s : St) (z0 : Int32) (z1 : Int32) : Option (Unit × St) := gd (inb z1 9) <| nam (setI s 23 z1.toNatClampNeg z0) fun s2 => gd (inb (4 : Int32) 9) <| nam (setI s2 24 (4 : Int32).toNatClampNeg (1 : Int32)) fun s5 => gd (inb (4 : Int32) 9) <| gd (inb (si s5 23 (4 : Int32).toNatClampNeg) 37) <| nam (setI s5 22 (si s5 23 (4 : Int32).toNatClampNeg).toNatClampNeg (1 : Int32)) fun s9 => nam (setI s9 0 45 (1 : Int32)) fun s11 => some ((), s11)
set_option maxHeartbeats 4000000 in
theorem w_X5_aim_189 {X : CX} {E : EV} {a0 s' : St} {r : Unit} (B : FX X E cX5_aim 8 none "RoseThrowModel" "aim" (sn a0) (ss a0) 6 144) (hS : ∀ σ, eSk E σ → SkM σ) (s : St) (z0 : Int32) (z1 : Int32) (h : F_X5_aim_189   s z0 z1 = some (r, s')) : J X E (sn a0) (ss a0) 8 (QR X E a0 none s') s 189 [(0, vr (some 0))] [vi z0, vi z1, vr (some 23)] := by
  unfold F_X5_aim_189 at h
  obtain ⟨hg1, h⟩ := gd_e h
  obtain ⟨s2, e3, h⟩ := nam_e h
  refine r_iast B e3 rfl (fun z => (hS _ z).1 23 (by decide)) hg1 dX5_aim_189 ?_
  refine r_aload_n (j := 0) B dX5_aim_190 rfl rfl ?_
  refine g5 (k := 44) B (vr (some 24)) rfl (fun z => by rw [(hS _ z).1 0 (by decide)]; rfl) rfl q1561 rfl (fun z => by rw [(hS _ z).2 _ (List.mem_of_getElem? (i := 23) rfl)]; rfl) dX5_aim_191 ?_
  refine r_iconst (v := 4) B dX5_aim_194 (by decide) ?_
  refine r_iconst (v := 1) B dX5_aim_195 (by decide) ?_
  obtain ⟨hg4, h⟩ := gd_e h
  obtain ⟨s5, e6, h⟩ := nam_e h
  refine r_iast B e6 rfl (fun z => (hS _ z).1 24 (by decide)) hg4 dX5_aim_196 ?_
  refine r_aload_n (j := 0) B dX5_aim_197 rfl rfl ?_
  refine g5 (k := 42) B (vr (some 22)) rfl (fun z => by rw [(hS _ z).1 0 (by decide)]; rfl) rfl q1559 rfl (fun z => by rw [(hS _ z).2 _ (List.mem_of_getElem? (i := 21) rfl)]; rfl) dX5_aim_198 ?_
  refine r_aload_n (j := 0) B dX5_aim_201 rfl rfl ?_
  refine g5 (k := 43) B (vr (some 23)) rfl (fun z => by rw [(hS _ z).1 0 (by decide)]; rfl) rfl q1560 rfl (fun z => by rw [(hS _ z).2 _ (List.mem_of_getElem? (i := 22) rfl)]; rfl) dX5_aim_202 ?_
  refine r_iconst (v := 4) B dX5_aim_205 (by decide) ?_
  obtain ⟨hg7, h⟩ := gd_e h
  refine r_iald B rfl (fun z => (hS _ z).1 23 (by decide)) hg7 dX5_aim_206 ?_
  refine r_iconst (v := 1) B dX5_aim_207 (by decide) ?_
  obtain ⟨hg8, h⟩ := gd_e h
  obtain ⟨s9, e10, h⟩ := nam_e h
  refine r_iast B e10 rfl (fun z => (hS _ z).1 22 (by decide)) hg8 dX5_aim_208 ?_
  refine r_aload_n (j := 0) B dX5_aim_209 rfl rfl ?_
  refine r_iconst (v := 1) B dX5_aim_210 (by decide) ?_
  obtain ⟨s11, e12, h⟩ := nam_e h
  refine pI5 (k := 45) B e12 rfl (fun z => by rw [(hS _ z).1 0 (by decide)]; rfl) rfl q1562 rfl rfl (fun _ _ _ => rfl) rfl dX5_aim_211 ?_
  exact r_vret B dX5_aim_214 h
set_option maxHeartbeats 4000000 in
noncomputable def F_X5_aim_45 : Nat → St → Int32 → Int32 → Int32 → Int32 → Int32 → Option (Unit × St)
  | 0 => fun _ _ _ _ _ _ => none
  | n + 1 => fun s x1 x2 x3 x4 x5 => if (9 : Int32) ≤ x5 then (if (si s 0 45) = 0 then (if x4 = 0 then (bnd (F_X5_cellAt s x3 x1) fun r4 s5 => F_X5_aim_189 s5 r4 (4 : Int32)) else (bnd (F_X5_term s (6 : Int32)) fun r7 s8 => F_X5_aim_189 s8 r7 (4 : Int32))) else (some ((), s))) else (nam ((x5 - x5 / (3 : Int32) * (3 : Int32)) - (1 : Int32)) fun y10 => nam ((x5 / (3 : Int32)) - (1 : Int32)) fun y12 => bnd (F_X5_cellAt s (x3 + y10) (x1 + y12)) fun r14 s15 => gd (inb x5 9) <| nam (setI s15 23 x5.toNatClampNeg r14) fun s18 => if x4 = 0 then (bnd (F_X5_slipWeighs s18 x1 x2 y10 y12) fun r21 s22 => F_X5_aim_112 (F_X5_aim_45  n) s22 x1 x2 x3 x4 x5 r21 x5) else (F_X5_aim_112 (F_X5_aim_45  n) s18 x1 x2 x3 x4 x5 (0 : Int32) x5))
set_option maxHeartbeats 4000000 in
theorem w_X5_aim_45 {X : CX} {E : EV} {a0 s' : St} {r : Unit} (B : FX X E cX5_aim 8 none "RoseThrowModel" "aim" (sn a0) (ss a0) 6 144) (hS : ∀ σ, eSk E σ → SkM σ) : ∀ (n : Nat) (s : St) (x1 : Int32) (x2 : Int32) (x3 : Int32) (x4 : Int32) (x5 : Int32), F_X5_aim_45   n s x1 x2 x3 x4 x5 = some (r, s') → J X E (sn a0) (ss a0) 8 (QR X E a0 none s') s 45 [(0, vr (some 0)), (1, vi x1), (2, vi x2), (3, vi x3), (4, vi x4), (5, vi x5)] [] := by
  intro n
  induction n with
  | zero => intro s x1 x2 x3 x4 x5 h; exact absurd (show (none : Option (Unit × St)) = _ from h) (by simp)
  | succ n ih =>
    intro s x1 x2 x3 x4 x5 h
    rw [F_X5_aim_45] at h
    refine r_iload (j := 5) B dX5_aim_45 rfl ?_
    refine r_bipush (v := 9) B dX5_aim_47 (by decide) ?_
    refine r_ic_ge (tgt := 157) B dX5_aim_49 (by decide) (fun cn1 => ?_) (fun cn1 => ?_)
    · have h := ot cn1 h
      refine r_aload_n (j := 0) B dX5_aim_157 rfl rfl ?_
      refine g5 (k := 45) B (vi (si s 0 45)) rfl (fun z => by rw [(hS _ z).1 0 (by decide)]; rfl) rfl q1562 rfl (fun _ => rfl) dX5_aim_158 ?_
      refine r_if_ne (tgt := 214) B dX5_aim_161 (by decide) (fun cn2 => ?_) (fun cn2 => ?_)
      · have h := of cn2 h
        exact r_vret B dX5_aim_214 h
      · have h := ot cn2 h
        refine r_aload_n (j := 0) B dX5_aim_164 rfl rfl ?_
        refine g5 (k := 43) B (vr (some 23)) rfl (fun z => by rw [(hS _ z).1 0 (by decide)]; rfl) rfl q1560 rfl (fun z => by rw [(hS _ z).2 _ (List.mem_of_getElem? (i := 22) rfl)]; rfl) dX5_aim_165 ?_
        refine r_iconst (v := 4) B dX5_aim_168 (by decide) ?_
        refine r_iload (j := 4) B dX5_aim_169 rfl ?_
        refine r_if_eq (tgt := 183) B dX5_aim_171 (by decide) (fun cn3 => ?_) (fun cn3 => ?_)
        · have h := ot cn3 h
          refine r_aload_n (j := 0) B dX5_aim_183 rfl rfl ?_
          refine r_iload_n (j := 3) B dX5_aim_184 rfl rfl ?_
          refine r_iload_n (j := 1) B dX5_aim_185 rfl rfl ?_
          obtain ⟨r4, s5, hc6, h⟩ := bnd_e h
          refine r_callVv (As := [vi x3, vi x1]) (rest := [vi (4 : Int32), vr (some 23)]) B rfl rfl EX.same (c_X5_cellAt B.ge hS hc6) (cw_X5_cellAt rfl rfl) (fun z => RV.of 5 ((fun z => by rw [(hS _ z).1 0 (by decide)]; rfl) z) rfl rfl qs94) q2016 q2018 rfl dX5_aim_186 ?_
          refine r_pick [0] (L' := [(0, vr (some 0))]) rfl ?_
          exact w_X5_aim_189 B hS s5 r4 (4 : Int32) h
        · have h := of cn3 h
          refine r_aload_n (j := 0) B dX5_aim_174 rfl rfl ?_
          refine r_bipush (v := 6) B dX5_aim_175 (by decide) ?_
          obtain ⟨r7, s8, hc9, h⟩ := bnd_e h
          refine r_callVv (As := [vi (6 : Int32)]) (rest := [vi (4 : Int32), vr (some 23)]) B rfl rfl EX.same (c_X5_term B.ge hS hc9) (cw_X5_term rfl rfl) (fun z => RV.of 5 ((fun z => by rw [(hS _ z).1 0 (by decide)]; rfl) z) rfl rfl qs56) q1783 q1785 rfl dX5_aim_177 ?_
          refine r_goto (tgt := 189) B dX5_aim_180 (by decide) ?_
          refine r_pick [0] (L' := [(0, vr (some 0))]) rfl ?_
          exact w_X5_aim_189 B hS s8 r7 (4 : Int32) h
    · have h := of cn1 h
      refine r_iload (j := 5) B dX5_aim_52 rfl ?_
      refine r_iconst (v := 3) B dX5_aim_54 (by decide) ?_
      refine r_irem B dX5_aim_55 (by decide) ?_
      refine r_iconst (v := 1) B dX5_aim_56 (by decide) ?_
      refine r_isub B dX5_aim_57 ?_
      obtain ⟨y10, e11, h⟩ := nam_e h
      refine r_topi e11 ?_
      refine r_istore (L' := [(0, vr (some 0)), (1, vi x1), (2, vi x2), (3, vi x3), (4, vi x4), (5, vi x5), (6, vi y10)]) B dX5_aim_58 (by decide) rfl rfl rfl ?_
      refine r_iload (j := 5) B dX5_aim_60 rfl ?_
      refine r_iconst (v := 3) B dX5_aim_62 (by decide) ?_
      refine r_idiv B dX5_aim_63 (by decide) ?_
      refine r_iconst (v := 1) B dX5_aim_64 (by decide) ?_
      refine r_isub B dX5_aim_65 ?_
      obtain ⟨y12, e13, h⟩ := nam_e h
      refine r_topi e13 ?_
      refine r_istore (L' := [(0, vr (some 0)), (1, vi x1), (2, vi x2), (3, vi x3), (4, vi x4), (5, vi x5), (6, vi y10), (7, vi y12)]) B dX5_aim_66 (by decide) rfl rfl rfl ?_
      refine r_aload_n (j := 0) B dX5_aim_68 rfl rfl ?_
      refine g5 (k := 43) B (vr (some 23)) rfl (fun z => by rw [(hS _ z).1 0 (by decide)]; rfl) rfl q1560 rfl (fun z => by rw [(hS _ z).2 _ (List.mem_of_getElem? (i := 22) rfl)]; rfl) dX5_aim_69 ?_
      refine r_iload (j := 5) B dX5_aim_72 rfl ?_
      refine r_aload_n (j := 0) B dX5_aim_74 rfl rfl ?_
      refine r_iload_n (j := 3) B dX5_aim_75 rfl rfl ?_
      refine r_iload (j := 6) B dX5_aim_76 rfl ?_
      refine r_iadd B dX5_aim_78 ?_
      refine r_iload_n (j := 1) B dX5_aim_79 rfl rfl ?_
      refine r_iload (j := 7) B dX5_aim_80 rfl ?_
      refine r_iadd B dX5_aim_82 ?_
      obtain ⟨r14, s15, hc16, h⟩ := bnd_e h
      refine r_callVv (As := [vi (x3 + y10), vi (x1 + y12)]) (rest := [vi x5, vr (some 23)]) B rfl rfl EX.same (c_X5_cellAt B.ge hS hc16) (cw_X5_cellAt rfl rfl) (fun z => RV.of 5 ((fun z => by rw [(hS _ z).1 0 (by decide)]; rfl) z) rfl rfl qs94) q2016 q2018 rfl dX5_aim_83 ?_
      obtain ⟨hg17, h⟩ := gd_e h
      obtain ⟨s18, e19, h⟩ := nam_e h
      refine r_iast B e19 rfl (fun z => (hS _ z).1 23 (by decide)) hg17 dX5_aim_86 ?_
      refine r_aload_n (j := 0) B dX5_aim_87 rfl rfl ?_
      refine g5 (k := 44) B (vr (some 24)) rfl (fun z => by rw [(hS _ z).1 0 (by decide)]; rfl) rfl q1561 rfl (fun z => by rw [(hS _ z).2 _ (List.mem_of_getElem? (i := 23) rfl)]; rfl) dX5_aim_88 ?_
      refine r_iload (j := 5) B dX5_aim_91 rfl ?_
      refine r_iload (j := 4) B dX5_aim_93 rfl ?_
      refine r_if_eq (tgt := 102) B dX5_aim_95 (by decide) (fun cn20 => ?_) (fun cn20 => ?_)
      · have h := ot cn20 h
        refine r_aload_n (j := 0) B dX5_aim_102 rfl rfl ?_
        refine r_iload_n (j := 1) B dX5_aim_103 rfl rfl ?_
        refine r_iload_n (j := 2) B dX5_aim_104 rfl rfl ?_
        refine r_iload (j := 6) B dX5_aim_105 rfl ?_
        refine r_iload (j := 7) B dX5_aim_107 rfl ?_
        obtain ⟨r21, s22, hc23, h⟩ := bnd_e h
        refine r_callVv (As := [vi x1, vi x2, vi y10, vi y12]) (rest := [vi x5, vr (some 24)]) B rfl rfl EX.same (c_X5_slipWeighs B.ge hS hc23) (cw_X5_slipWeighs rfl rfl) (fun z => RV.of 5 ((fun z => by rw [(hS _ z).1 0 (by decide)]; rfl) z) rfl rfl qs95) q2020 q2022 rfl dX5_aim_109 ?_
        refine r_pick [0, 1, 2, 3, 4, 5] (L' := [(0, vr (some 0)), (1, vi x1), (2, vi x2), (3, vi x3), (4, vi x4), (5, vi x5)]) rfl ?_
        exact w_X5_aim_112 B hS (F_X5_aim_45  n) ih s22 x1 x2 x3 x4 x5 r21 x5 h
      · have h := of cn20 h
        refine r_iconst (v := 0) B dX5_aim_98 (by decide) ?_
        refine r_goto (tgt := 112) B dX5_aim_99 (by decide) ?_
        refine r_pick [0, 1, 2, 3, 4, 5] (L' := [(0, vr (some 0)), (1, vi x1), (2, vi x2), (3, vi x3), (4, vi x4), (5, vi x5)]) rfl ?_
        exact w_X5_aim_112 B hS (F_X5_aim_45  n) ih s18 x1 x2 x3 x4 x5 (0 : Int32) x5 h
set_option maxHeartbeats 4000000 in
noncomputable def F_X5_aim_2 : Nat → St → Int32 → Int32 → Int32 → Option (Unit × St)
  | 0 => fun _ _ _ _ => none
  | n + 1 => fun s x1 x2 x3 => if (37 : Int32) ≤ x3 then (nam (setI s 0 45 (0 : Int32)) fun s2 => bnd (F_X5_term s2 (4 : Int32)) fun r4 s5 => bnd (F_X5_isLit s5 x1 x2) fun r7 s8 => F_X5_aim_45 FU s8 x1 x2 (r4 + x2) r7 (0 : Int32)) else (gd (inb x3 37) <| nam (setI s 22 x3.toNatClampNeg (0 : Int32)) fun s11 => F_X5_aim_2  n s11 x1 x2 (x3 + (1)))
set_option maxHeartbeats 4000000 in
theorem w_X5_aim_2 {X : CX} {E : EV} {a0 s' : St} {r : Unit} (B : FX X E cX5_aim 8 none "RoseThrowModel" "aim" (sn a0) (ss a0) 6 144) (hS : ∀ σ, eSk E σ → SkM σ) : ∀ (n : Nat) (s : St) (x1 : Int32) (x2 : Int32) (x3 : Int32), F_X5_aim_2   n s x1 x2 x3 = some (r, s') → J X E (sn a0) (ss a0) 8 (QR X E a0 none s') s 2 [(0, vr (some 0)), (1, vi x1), (2, vi x2), (3, vi x3)] [] := by
  intro n
  induction n with
  | zero => intro s x1 x2 x3 h; exact absurd (show (none : Option (Unit × St)) = _ from h) (by simp)
  | succ n ih =>
    intro s x1 x2 x3 h
    rw [F_X5_aim_2] at h
    refine r_iload_n (j := 3) B dX5_aim_2 rfl rfl ?_
    refine r_bipush (v := 37) B dX5_aim_3 (by decide) ?_
    refine r_ic_ge (tgt := 21) B dX5_aim_5 (by decide) (fun cn1 => ?_) (fun cn1 => ?_)
    · have h := ot cn1 h
      refine r_aload_n (j := 0) B dX5_aim_21 rfl rfl ?_
      refine r_iconst (v := 0) B dX5_aim_22 (by decide) ?_
      obtain ⟨s2, e3, h⟩ := nam_e h
      refine pI5 (k := 45) B e3 rfl (fun z => by rw [(hS _ z).1 0 (by decide)]; rfl) rfl q1562 rfl rfl (fun _ _ _ => rfl) rfl dX5_aim_23 ?_
      refine r_aload_n (j := 0) B dX5_aim_26 rfl rfl ?_
      refine r_iconst (v := 4) B dX5_aim_27 (by decide) ?_
      obtain ⟨r4, s5, hc6, h⟩ := bnd_e h
      refine r_callVv (As := [vi (4 : Int32)]) (rest := []) B rfl rfl EX.same (c_X5_term B.ge hS hc6) (cw_X5_term rfl rfl) (fun z => RV.of 5 ((fun z => by rw [(hS _ z).1 0 (by decide)]; rfl) z) rfl rfl qs56) q1783 q1785 rfl dX5_aim_28 ?_
      refine r_iload_n (j := 2) B dX5_aim_31 rfl rfl ?_
      refine r_iadd B dX5_aim_32 ?_
      refine r_istore_n (L' := [(0, vr (some 0)), (1, vi x1), (2, vi x2), (3, vi (r4 + x2))]) B dX5_aim_33 rfl (by decide) rfl rfl rfl ?_
      refine r_aload_n (j := 0) B dX5_aim_34 rfl rfl ?_
      refine r_iload_n (j := 1) B dX5_aim_35 rfl rfl ?_
      refine r_iload_n (j := 2) B dX5_aim_36 rfl rfl ?_
      obtain ⟨r7, s8, hc9, h⟩ := bnd_e h
      refine r_callVv (As := [vi x1, vi x2]) (rest := []) B rfl rfl EX.same (c_X5_isLit B.ge hS hc9) (cw_X5_isLit rfl rfl) (fun z => RV.of 5 ((fun z => by rw [(hS _ z).1 0 (by decide)]; rfl) z) rfl rfl qs93) q2012 q2014 rfl dX5_aim_37 ?_
      refine r_istore (L' := [(0, vr (some 0)), (1, vi x1), (2, vi x2), (3, vi (r4 + x2)), (4, vi r7)]) B dX5_aim_40 (by decide) rfl rfl rfl ?_
      refine r_iconst (v := 0) B dX5_aim_42 (by decide) ?_
      refine r_istore (L' := [(0, vr (some 0)), (1, vi x1), (2, vi x2), (3, vi (r4 + x2)), (4, vi r7), (5, vi (0 : Int32))]) B dX5_aim_43 (by decide) rfl rfl rfl ?_
      exact w_X5_aim_45 B hS FU s8 x1 x2 (r4 + x2) r7 (0 : Int32) h
    · have h := of cn1 h
      refine r_aload_n (j := 0) B dX5_aim_8 rfl rfl ?_
      refine g5 (k := 42) B (vr (some 22)) rfl (fun z => by rw [(hS _ z).1 0 (by decide)]; rfl) rfl q1559 rfl (fun z => by rw [(hS _ z).2 _ (List.mem_of_getElem? (i := 21) rfl)]; rfl) dX5_aim_9 ?_
      refine r_iload_n (j := 3) B dX5_aim_12 rfl rfl ?_
      refine r_iconst (v := 0) B dX5_aim_13 (by decide) ?_
      obtain ⟨hg10, h⟩ := gd_e h
      obtain ⟨s11, e12, h⟩ := nam_e h
      refine r_iast B e12 rfl (fun z => (hS _ z).1 22 (by decide)) hg10 dX5_aim_14 ?_
      refine r_iinc (j := 3) (v := (x3 + (1))) (L' := [(0, vr (some 0)), (1, vi x1), (2, vi x2), (3, vi (x3 + (1)))]) B dX5_aim_15 rfl rfl (by decide) rfl rfl rfl ?_
      refine r_goto (tgt := 2) B dX5_aim_18 (by decide) ?_
      exact ih s11 x1 x2 (x3 + (1)) h
set_option maxHeartbeats 4000000 in
noncomputable def F_X5_aim (s : St) (p0 : Int32) (p1 : Int32) : Option (Unit × St) := F_X5_aim_2 FU s p0 p1 (0 : Int32)
set_option maxHeartbeats 4000000 in
theorem c_X5_aim {l : Launch} {E : EV} (hE : GE E) (hS : ∀ σ, eSk E σ → SkM σ) {s s' : St} {r : Unit} {p0 : Int32} {p1 : Int32} (h : F_X5_aim  s p0 p1 = some (r, s')) : CT l E yX5_aim cX5_aim 8 none 6 144 [vr (some 0), vi p0, vi p1] s none s' := by
  refine CT.start hE (by decide) rfl [(0, vr (some 0)), (1, vi p0), (2, vi p1)] rfl (fun X hX B => ?_)
  skip
  have B : FX X E cX5_aim 8 none "RoseThrowModel" "aim" (sn s) (ss s) 6 144 := B
  unfold F_X5_aim at h
  refine r_iconst (v := 0) B dX5_aim_0 (by decide) ?_
  refine r_istore_n (L' := [(0, vr (some 0)), (1, vi p0), (2, vi p1), (3, vi (0 : Int32))]) B dX5_aim_1 rfl (by decide) rfl rfl rfl ?_
  exact w_X5_aim_2 B hS FU s p0 p1 (0 : Int32) h
set_option maxHeartbeats 4000000 in
theorem cw_X5_aim {X : CX} {fr lo : Nat} (h1 : Nat.ble (6 + 1) fr = true) (h2 : Nat.ble (27 + 144) lo = true) : CW X fr lo yX5_aim cX5_aim 8 none 6 144 2 := ⟨q2011, q136, ⟨by decide +kernel, by decide +kernel, by decide +kernel⟩, Nat.le_of_ble_eq_true h1, Nat.le_of_ble_eq_true h2⟩

set_option maxHeartbeats 4000000 in
noncomputable def F_X5_aimNow (s : St)  : Option (Unit × St) := bnd (F_X5_term s (0 : Int32)) fun r1 s2 => bnd (F_X5_term s2 (1 : Int32)) fun r4 s5 => bnd (F_X5_aim s5 r1 r4) fun _ s8 => some ((), s8)
set_option maxHeartbeats 4000000 in
theorem c_X5_aimNow {l : Launch} {E : EV} (hE : GE E) (hS : ∀ σ, eSk E σ → SkM σ) {s s' : St} {r : Unit}  (h : F_X5_aimNow  s  = some (r, s')) : CT l E yX5_aimNow cX5_aimNow 1 none 7 171 [vr (some 0)] s none s' := by
  refine CT.start hE (by decide) rfl [(0, vr (some 0))] rfl (fun X hX B => ?_)
  skip
  have B : FX X E cX5_aimNow 1 none "RoseThrowModel" "aimNow" (sn s) (ss s) 7 171 := B
  unfold F_X5_aimNow at h
  refine r_aload_n (j := 0) B dX5_aimNow_0 rfl rfl ?_
  refine r_aload_n (j := 0) B dX5_aimNow_1 rfl rfl ?_
  refine r_iconst (v := 0) B dX5_aimNow_2 (by decide) ?_
  obtain ⟨r1, s2, hc3, h⟩ := bnd_e h
  refine r_callVv (As := [vi (0 : Int32)]) (rest := [vr (some 0)]) B rfl rfl EX.same (c_X5_term B.ge hS hc3) (cw_X5_term rfl rfl) (fun z => RV.of 5 ((fun z => by rw [(hS _ z).1 0 (by decide)]; rfl) z) rfl rfl qs56) q1783 q1785 rfl dX5_aimNow_3 ?_
  refine r_aload_n (j := 0) B dX5_aimNow_6 rfl rfl ?_
  refine r_iconst (v := 1) B dX5_aimNow_7 (by decide) ?_
  obtain ⟨r4, s5, hc6, h⟩ := bnd_e h
  refine r_callVv (As := [vi (1 : Int32)]) (rest := [vi r1, vr (some 0)]) B rfl rfl EX.same (c_X5_term B.ge hS hc6) (cw_X5_term rfl rfl) (fun z => RV.of 5 ((fun z => by rw [(hS _ z).1 0 (by decide)]; rfl) z) rfl rfl qs56) q1783 q1785 rfl dX5_aimNow_8 ?_
  obtain ⟨r7, s8, hc9, h⟩ := bnd_e h
  refine r_callV0 (As := [vi r1, vi r4]) (rest := []) B rfl rfl EX.same (c_X5_aim B.ge hS hc9) (cw_X5_aim rfl rfl) (fun z => RV.of 5 ((fun z => by rw [(hS _ z).1 0 (by decide)]; rfl) z) rfl rfl qs92) q2008 q2010 rfl dX5_aimNow_11 ?_
  exact r_vret B dX5_aimNow_14 h
set_option maxHeartbeats 4000000 in
theorem cw_X5_aimNow {X : CX} {fr lo : Nat} (h1 : Nat.ble (7 + 1) fr = true) (h2 : Nat.ble (20 + 171) lo = true) : CW X fr lo yX5_aimNow cX5_aimNow 1 none 7 171 0 := ⟨q2007, q136, ⟨by decide +kernel, by decide +kernel, by decide +kernel⟩, Nat.le_of_ble_eq_true h1, Nat.le_of_ble_eq_true h2⟩

set_option maxHeartbeats 4000000 in
noncomputable def F_X5_shorten_6 : Nat → St → Int64 → Int64 → Int64 → Int64 → Option (Unit × St)
  | 0 => fun _ _ _ _ _ => none
  | n + 1 => fun s x1 x3 x5 x7 => if x7 = (0 : Int64) then (gd (nzl x5) <| nam (setL s 0 46 (x1 / x5)) fun s3 => gd (nzl x5) <| nam (setL s3 0 47 (x3 / x5)) fun s6 => some ((), s6)) else (gd (nzl x7) <| F_X5_shorten_6  n s x1 x3 x7 (x5 - x5 / x7 * x7))
set_option maxHeartbeats 4000000 in
theorem w_X5_shorten_6 {X : CX} {E : EV} {a0 s' : St} {r : Unit} (B : FX X E cX5_shorten 11 none "RoseThrowModel" "shorten" (sn a0) (ss a0) 0 0) (hS : ∀ σ, eSk E σ → SkM σ) : ∀ (n : Nat) (s : St) (x1 : Int64) (x3 : Int64) (x5 : Int64) (x7 : Int64), F_X5_shorten_6   n s x1 x3 x5 x7 = some (r, s') → J X E (sn a0) (ss a0) 11 (QR X E a0 none s') s 6 [(0, vr (some 0)), (1, vl x1), (3, vl x3), (5, vl x5), (7, vl x7)] [] := by
  intro n
  induction n with
  | zero => intro s x1 x3 x5 x7 h; exact absurd (show (none : Option (Unit × St)) = _ from h) (by simp)
  | succ n ih =>
    intro s x1 x3 x5 x7 h
    rw [F_X5_shorten_6] at h
    refine r_lload (j := 4) B dX5_shorten_6 rfl ?_
    refine r_lconst (v := 0) B dX5_shorten_8 (by decide) ?_
    refine r_lcmp B dX5_shorten_9 ?_
    refine r_if_eq (tgt := 31) B dX5_shorten_10 (by decide) (fun cn1 => ?_) (fun cn1 => ?_)
    · have h := ot (lc_eq.mp cn1) h
      refine r_aload_n (j := 0) B dX5_shorten_31 rfl rfl ?_
      refine r_lload_n (j := 1) B dX5_shorten_32 rfl rfl ?_
      refine r_lload (j := 3) B dX5_shorten_33 rfl ?_
      obtain ⟨hg2, h⟩ := gd_e h
      refine r_ldiv B dX5_shorten_35 (nzl_e hg2) ?_
      obtain ⟨s3, e4, h⟩ := nam_e h
      refine pL5 (k := 46) B e4 rfl (fun z => by rw [(hS _ z).1 0 (by decide)]; rfl) rfl q1563 rfl rfl rfl dX5_shorten_36 ?_
      refine r_aload_n (j := 0) B dX5_shorten_39 rfl rfl ?_
      refine r_lload_n (j := 2) B dX5_shorten_40 rfl rfl ?_
      refine r_lload (j := 3) B dX5_shorten_41 rfl ?_
      obtain ⟨hg5, h⟩ := gd_e h
      refine r_ldiv B dX5_shorten_43 (nzl_e hg5) ?_
      obtain ⟨s6, e7, h⟩ := nam_e h
      refine pL5 (k := 47) B e7 rfl (fun z => by rw [(hS _ z).1 0 (by decide)]; rfl) rfl q1564 rfl rfl rfl dX5_shorten_44 ?_
      exact r_vret B dX5_shorten_47 h
    · have h := of (fun z => cn1 (lc_eq.mpr z)) h
      refine r_lload (j := 3) B dX5_shorten_13 rfl ?_
      refine r_lload (j := 4) B dX5_shorten_15 rfl ?_
      obtain ⟨hg8, h⟩ := gd_e h
      refine r_lrem B dX5_shorten_17 (nzl_e hg8) ?_
      refine r_lstore (L' := [(0, vr (some 0)), (1, vl x1), (3, vl x3), (5, vl x5), (7, vl x7), (9, vl (x5 - x5 / x7 * x7))]) B dX5_shorten_18 (by decide) rfl rfl rfl ?_
      refine r_lload (j := 4) B dX5_shorten_20 rfl ?_
      refine r_lstore (L' := [(0, vr (some 0)), (1, vl x1), (3, vl x3), (5, vl x7), (7, vl x7), (9, vl (x5 - x5 / x7 * x7))]) B dX5_shorten_22 (by decide) rfl rfl rfl ?_
      refine r_lload (j := 5) B dX5_shorten_24 rfl ?_
      refine r_lstore (L' := [(0, vr (some 0)), (1, vl x1), (3, vl x3), (5, vl x7), (7, vl (x5 - x5 / x7 * x7)), (9, vl (x5 - x5 / x7 * x7))]) B dX5_shorten_26 (by decide) rfl rfl rfl ?_
      refine r_goto (tgt := 6) B dX5_shorten_28 (by decide) ?_
      refine r_pick [0, 1, 2, 3, 4] (L' := [(0, vr (some 0)), (1, vl x1), (3, vl x3), (5, vl x7), (7, vl (x5 - x5 / x7 * x7))]) rfl ?_
      exact ih s x1 x3 x7 (x5 - x5 / x7 * x7) h
set_option maxHeartbeats 4000000 in
noncomputable def F_X5_shorten (s : St) (p0 : Int64) (p1 : Int64) : Option (Unit × St) := F_X5_shorten_6 FU s p0 p1 p0 p1
set_option maxHeartbeats 4000000 in
theorem c_X5_shorten {l : Launch} {E : EV} (hE : GE E) (hS : ∀ σ, eSk E σ → SkM σ) {s s' : St} {r : Unit} {p0 : Int64} {p1 : Int64} (h : F_X5_shorten  s p0 p1 = some (r, s')) : CT l E yX5_shorten cX5_shorten 11 none 0 0 [vr (some 0), vl p0, vl p1] s none s' := by
  refine CT.start hE (by decide) rfl [(0, vr (some 0)), (1, vl p0), (3, vl p1)] rfl (fun X hX B => ?_)
  skip
  have B : FX X E cX5_shorten 11 none "RoseThrowModel" "shorten" (sn s) (ss s) 0 0 := B
  unfold F_X5_shorten at h
  refine r_lload_n (j := 1) B dX5_shorten_0 rfl rfl ?_
  refine r_lstore (L' := [(0, vr (some 0)), (1, vl p0), (3, vl p1), (5, vl p0)]) B dX5_shorten_1 (by decide) rfl rfl rfl ?_
  refine r_lload_n (j := 2) B dX5_shorten_3 rfl rfl ?_
  refine r_lstore (L' := [(0, vr (some 0)), (1, vl p0), (3, vl p1), (5, vl p0), (7, vl p1)]) B dX5_shorten_4 (by decide) rfl rfl rfl ?_
  exact w_X5_shorten_6 B hS FU s p0 p1 p0 p1 h
set_option maxHeartbeats 4000000 in
theorem cw_X5_shorten {X : CX} {fr lo : Nat} (h1 : Nat.ble (0 + 1) fr = true) (h2 : Nat.ble (30 + 0) lo = true) : CW X fr lo yX5_shorten cX5_shorten 11 none 0 0 2 := ⟨q2027, q136, ⟨by decide +kernel, by decide +kernel, by decide +kernel⟩, Nat.le_of_ble_eq_true h1, Nat.le_of_ble_eq_true h2⟩

set_option maxHeartbeats 4000000 in
noncomputable def F_X5_comes_74 (s : St) (z0 : Int64) : Option (Int32 × St) := some (((z0).toInt32), s)
set_option maxHeartbeats 4000000 in
theorem w_X5_comes_74 {X : CX} {E : EV} {a0 s' : St} {r : Int32} (B : FX X E cX5_comes 3 (some .int) "RoseThrowModel" "comes" (sn a0) (ss a0) 8 191) (hS : ∀ σ, eSk E σ → SkM σ) (s : St) (z0 : Int64) (h : F_X5_comes_74   s z0 = some (r, s')) : J X E (sn a0) (ss a0) 3 (QR X E a0 (some (vi r)) s') s 74 [] [vl z0] := by
  unfold F_X5_comes_74 at h
  refine r_l2i B dX5_comes_74 ?_
  exact r_iret B dX5_comes_75 h
set_option maxHeartbeats 4000000 in
noncomputable def F_X5_comes_49 (s : St) (x2 : Int32) (z0 : Int32) : Option (Int32 × St) := gd (inb z0 37) <| bnd (F_X5_shorten s (((si s 22 z0.toNatClampNeg)).toInt64) (((si s 0 45)).toInt64)) fun _ s3 => if x2 = 0 then (F_X5_comes_74 s3 (sl s3 0 46)) else (F_X5_comes_74 s3 (sl s3 0 47))
set_option maxHeartbeats 4000000 in
theorem w_X5_comes_49 {X : CX} {E : EV} {a0 s' : St} {r : Int32} (B : FX X E cX5_comes 3 (some .int) "RoseThrowModel" "comes" (sn a0) (ss a0) 8 191) (hS : ∀ σ, eSk E σ → SkM σ) (s : St) (x2 : Int32) (z0 : Int32) (h : F_X5_comes_49   s x2 z0 = some (r, s')) : J X E (sn a0) (ss a0) 3 (QR X E a0 (some (vi r)) s') s 49 [(0, vr (some 0)), (2, vi x2)] [vi z0, vr (some 22), vr (some 0)] := by
  unfold F_X5_comes_49 at h
  obtain ⟨hg1, h⟩ := gd_e h
  refine r_iald B rfl (fun z => (hS _ z).1 22 (by decide)) hg1 dX5_comes_49 ?_
  refine r_i2l B dX5_comes_50 ?_
  refine r_aload_n (j := 0) B dX5_comes_51 rfl rfl ?_
  refine g5 (k := 45) B (vi (si s 0 45)) rfl (fun z => by rw [(hS _ z).1 0 (by decide)]; rfl) rfl q1562 rfl (fun _ => rfl) dX5_comes_52 ?_
  refine r_i2l B dX5_comes_55 ?_
  obtain ⟨r2, s3, hc4, h⟩ := bnd_e h
  refine r_callV0 (As := [vl (((si s 22 z0.toNatClampNeg)).toInt64), vl (((si s 0 45)).toInt64)]) (rest := []) B rfl rfl EX.same (c_X5_shorten B.ge hS hc4) (cw_X5_shorten rfl rfl) (fun z => RV.of 5 ((fun z => by rw [(hS _ z).1 0 (by decide)]; rfl) z) rfl rfl qs96) q2024 q2026 rfl dX5_comes_56 ?_
  refine r_iload_n (j := 1) B dX5_comes_59 rfl rfl ?_
  refine r_if_ne (tgt := 70) B dX5_comes_60 (by decide) (fun cn5 => ?_) (fun cn5 => ?_)
  · have h := of cn5 h
    refine r_aload_n (j := 0) B dX5_comes_70 rfl rfl ?_
    refine g5 (k := 47) B (vl (sl s3 0 47)) rfl (fun z => by rw [(hS _ z).1 0 (by decide)]; rfl) rfl q1564 rfl (fun _ => rfl) dX5_comes_71 ?_
    refine r_pick [] (L' := []) rfl ?_
    exact w_X5_comes_74 B hS s3 (sl s3 0 47) h
  · have h := ot cn5 h
    refine r_aload_n (j := 0) B dX5_comes_63 rfl rfl ?_
    refine g5 (k := 46) B (vl (sl s3 0 46)) rfl (fun z => by rw [(hS _ z).1 0 (by decide)]; rfl) rfl q1563 rfl (fun _ => rfl) dX5_comes_64 ?_
    refine r_goto (tgt := 74) B dX5_comes_67 (by decide) ?_
    refine r_pick [] (L' := []) rfl ?_
    exact w_X5_comes_74 B hS s3 (sl s3 0 46) h
set_option maxHeartbeats 4000000 in
noncomputable def F_X5_comes_17 (s : St) (x1 : Int32) (x2 : Int32) : Option (Int32 × St) := bnd (F_X5_in s ((x2).toInt64) (0 : Int64) (1 : Int64)) fun r1 s2 => if r1 = 0 then (some ((-1 : Int32), s2)) else (bnd (F_X5_aimNow s2) fun _ s6 => if x1 = (-1 : Int32) then (F_X5_comes_49 s6 x2 (36 : Int32)) else (F_X5_comes_49 s6 x2 x1))
set_option maxHeartbeats 4000000 in
theorem w_X5_comes_17 {X : CX} {E : EV} {a0 s' : St} {r : Int32} (B : FX X E cX5_comes 3 (some .int) "RoseThrowModel" "comes" (sn a0) (ss a0) 8 191) (hS : ∀ σ, eSk E σ → SkM σ) (s : St) (x1 : Int32) (x2 : Int32) (h : F_X5_comes_17   s x1 x2 = some (r, s')) : J X E (sn a0) (ss a0) 3 (QR X E a0 (some (vi r)) s') s 17 [(0, vr (some 0)), (1, vi x1), (2, vi x2)] [] := by
  unfold F_X5_comes_17 at h
  refine r_iload_n (j := 2) B dX5_comes_17 rfl rfl ?_
  refine r_i2l B dX5_comes_18 ?_
  refine r_lconst (v := 0) B dX5_comes_19 (by decide) ?_
  refine r_lconst (v := 1) B dX5_comes_20 (by decide) ?_
  obtain ⟨r1, s2, hc3, h⟩ := bnd_e h
  refine r_callSv (As := [vl ((x2).toInt64), vl (0 : Int64), vl (1 : Int64)]) (rest := []) B rfl EX.same (c_X5_in B.ge hS hc3) (cw_X5_in rfl rfl) q1740 q1741 rfl dX5_comes_21 ?_
  refine r_if_ne (tgt := 29) B dX5_comes_24 (by decide) (fun cn4 => ?_) (fun cn4 => ?_)
  · have h := of cn4 h
    refine r_aload_n (j := 0) B dX5_comes_29 rfl rfl ?_
    obtain ⟨r5, s6, hc7, h⟩ := bnd_e h
    refine r_callV0 (As := []) (rest := []) B rfl rfl EX.same (c_X5_aimNow B.ge hS hc7) (cw_X5_aimNow rfl rfl) (fun z => RV.of 5 ((fun z => by rw [(hS _ z).1 0 (by decide)]; rfl) z) rfl rfl qs91) q2004 q2006 rfl dX5_comes_30 ?_
    refine r_aload_n (j := 0) B dX5_comes_33 rfl rfl ?_
    refine r_aload_n (j := 0) B dX5_comes_34 rfl rfl ?_
    refine g5 (k := 42) B (vr (some 22)) rfl (fun z => by rw [(hS _ z).1 0 (by decide)]; rfl) rfl q1559 rfl (fun z => by rw [(hS _ z).2 _ (List.mem_of_getElem? (i := 21) rfl)]; rfl) dX5_comes_35 ?_
    refine r_iload_n (j := 1) B dX5_comes_38 rfl rfl ?_
    refine r_iconst (v := -1) B dX5_comes_39 (by decide) ?_
    refine r_ic_ne (tgt := 48) B dX5_comes_40 (by decide) (fun cn8 => ?_) (fun cn8 => ?_)
    · have h := of cn8 h
      refine r_iload_n (j := 1) B dX5_comes_48 rfl rfl ?_
      refine r_pick [0, 2] (L' := [(0, vr (some 0)), (2, vi x2)]) rfl ?_
      exact w_X5_comes_49 B hS s6 x2 x1 h
    · have h := ot cn8 h
      refine r_bipush (v := 36) B dX5_comes_43 (by decide) ?_
      refine r_goto (tgt := 49) B dX5_comes_45 (by decide) ?_
      refine r_pick [0, 2] (L' := [(0, vr (some 0)), (2, vi x2)]) rfl ?_
      exact w_X5_comes_49 B hS s6 x2 (36 : Int32) h
  · have h := ot cn4 h
    refine r_iconst (v := -1) B dX5_comes_27 (by decide) ?_
    exact r_iret B dX5_comes_28 h
set_option maxHeartbeats 4000000 in
noncomputable def F_X5_comes (s : St) (p0 : Int32) (p1 : Int32) : Option (Int32 × St) := nam (setI s 0 0 (0 : Int32)) fun s1 => if p0 = (-1 : Int32) then (F_X5_comes_17 s1 p0 p1) else (bnd (F_X5_isCell s1 p0) fun r4 s5 => if r4 = 0 then (some ((-1 : Int32), s5)) else (F_X5_comes_17 s5 p0 p1))
set_option maxHeartbeats 4000000 in
theorem c_X5_comes {l : Launch} {E : EV} (hE : GE E) (hS : ∀ σ, eSk E σ → SkM σ) {s s' : St} {r : Int32} {p0 : Int32} {p1 : Int32} (h : F_X5_comes  s p0 p1 = some (r, s')) : CT l E yX5_comes cX5_comes 3 (some .int) 8 191 [vr (some 0), vi p0, vi p1] s (some (vi r)) s' := by
  refine CT.start hE (by decide) rfl [(0, vr (some 0)), (1, vi p0), (2, vi p1)] rfl (fun X hX B => ?_)
  skip
  have B : FX X E cX5_comes 3 (some .int) "RoseThrowModel" "comes" (sn s) (ss s) 8 191 := B
  unfold F_X5_comes at h
  refine r_aload_n (j := 0) B dX5_comes_0 rfl rfl ?_
  refine r_iconst (v := 0) B dX5_comes_1 (by decide) ?_
  obtain ⟨s1, e2, h⟩ := nam_e h
  refine pI5 (k := 0) B e2 rfl (fun z => by rw [(hS _ z).1 0 (by decide)]; rfl) rfl q1517 rfl rfl (fun _ _ _ => rfl) rfl dX5_comes_2 ?_
  refine r_iload_n (j := 1) B dX5_comes_5 rfl rfl ?_
  refine r_iconst (v := -1) B dX5_comes_6 (by decide) ?_
  refine r_ic_eq (tgt := 17) B dX5_comes_7 (by decide) (fun cn3 => ?_) (fun cn3 => ?_)
  · have h := ot cn3 h
    exact w_X5_comes_17 B hS s1 p0 p1 h
  · have h := of cn3 h
    refine r_iload_n (j := 1) B dX5_comes_10 rfl rfl ?_
    obtain ⟨r4, s5, hc6, h⟩ := bnd_e h
    refine r_callSv (As := [vi p0]) (rest := []) B rfl EX.same (c_X5_isCell B.ge hS hc6) (cw_X5_isCell rfl rfl) q1755 q1756 rfl dX5_comes_11 ?_
    refine r_if_eq (tgt := 27) B dX5_comes_14 (by decide) (fun cn7 => ?_) (fun cn7 => ?_)
    · have h := ot cn7 h
      refine r_iconst (v := -1) B dX5_comes_27 (by decide) ?_
      exact r_iret B dX5_comes_28 h
    · have h := of cn7 h
      exact w_X5_comes_17 B hS s5 p0 p1 h
set_option maxHeartbeats 4000000 in
theorem cw_X5_comes {X : CX} {fr lo : Nat} (h1 : Nat.ble (8 + 1) fr = true) (h2 : Nat.ble (22 + 191) lo = true) : CW X fr lo yX5_comes cX5_comes 3 (some .int) 8 191 2 := ⟨q2003, q136, ⟨by decide +kernel, by decide +kernel, by decide +kernel⟩, Nat.le_of_ble_eq_true h1, Nat.le_of_ble_eq_true h2⟩

set_option maxHeartbeats 4000000 in
noncomputable def F_X5_away (s : St) (p0 : Int32) : Option (Int32 × St) := if 0 ≤ p0 then (some (p0, s)) else (some ((-p0), s))
set_option maxHeartbeats 4000000 in
theorem c_X5_away {l : Launch} {E : EV} (hE : GE E) (hS : ∀ σ, eSk E σ → SkM σ) {s s' : St} {r : Int32} {p0 : Int32} (h : F_X5_away  s p0 = some (r, s')) : CT l E yX5_away cX5_away 1 (some .int) 0 0 [vi p0] s (some (vi r)) s' := by
  refine CT.start hE (by decide) rfl [(0, vi p0)] rfl (fun X hX B => ?_)
  skip
  have B : FX X E cX5_away 1 (some .int) "RoseThrowModel" "away" (sn s) (ss s) 0 0 := B
  unfold F_X5_away at h
  refine r_iload_n (j := 0) B dX5_away_0 rfl rfl ?_
  refine r_if_ge (tgt := 9) B dX5_away_1 (by decide) (fun cn1 => ?_) (fun cn1 => ?_)
  · have h := ot cn1 h
    refine r_iload_n (j := 0) B dX5_away_9 rfl rfl ?_
    exact r_iret B dX5_away_10 h
  · have h := of cn1 h
    refine r_iload_n (j := 0) B dX5_away_4 rfl rfl ?_
    refine r_ineg B dX5_away_5 ?_
    refine r_goto (tgt := 10) B dX5_away_6 (by decide) ?_
    exact r_iret B dX5_away_10 h
set_option maxHeartbeats 4000000 in
theorem cw_X5_away {X : CX} {fr lo : Nat} (h1 : Nat.ble (0 + 1) fr = true) (h2 : Nat.ble (20 + 0) lo = true) : CW X fr lo yX5_away cX5_away 1 (some .int) 0 0 1 := ⟨q2049, q136, ⟨by decide +kernel, by decide +kernel, by decide +kernel⟩, Nat.le_of_ble_eq_true h1, Nat.le_of_ble_eq_true h2⟩

set_option maxHeartbeats 4000000 in
noncomputable def F_X5_farOf (s : St) (p0 : Int32) (p1 : Int32) : Option (Int32 × St) := bnd (F_X5_away s ((p0 - p0 / (6 : Int32) * (6 : Int32)) - (p1 - p1 / (6 : Int32) * (6 : Int32)))) fun r1 s2 => bnd (F_X5_away s2 ((p0 / (6 : Int32)) - (p1 / (6 : Int32)))) fun r4 s5 => some ((r1 + r4), s5)
set_option maxHeartbeats 4000000 in
theorem c_X5_farOf {l : Launch} {E : EV} (hE : GE E) (hS : ∀ σ, eSk E σ → SkM σ) {s s' : St} {r : Int32} {p0 : Int32} {p1 : Int32} (h : F_X5_farOf  s p0 p1 = some (r, s')) : CT l E yX5_farOf cX5_farOf 2 (some .int) 1 20 [vi p0, vi p1] s (some (vi r)) s' := by
  refine CT.start hE (by decide) rfl [(0, vi p0), (1, vi p1)] rfl (fun X hX B => ?_)
  skip
  have B : FX X E cX5_farOf 2 (some .int) "RoseThrowModel" "farOf" (sn s) (ss s) 1 20 := B
  unfold F_X5_farOf at h
  refine r_iload_n (j := 0) B dX5_farOf_0 rfl rfl ?_
  refine r_bipush (v := 6) B dX5_farOf_1 (by decide) ?_
  refine r_irem B dX5_farOf_3 (by decide) ?_
  refine r_iload_n (j := 1) B dX5_farOf_4 rfl rfl ?_
  refine r_bipush (v := 6) B dX5_farOf_5 (by decide) ?_
  refine r_irem B dX5_farOf_7 (by decide) ?_
  refine r_isub B dX5_farOf_8 ?_
  obtain ⟨r1, s2, hc3, h⟩ := bnd_e h
  refine r_callSv (As := [vi ((p0 - p0 / (6 : Int32) * (6 : Int32)) - (p1 - p1 / (6 : Int32) * (6 : Int32)))]) (rest := []) B rfl EX.same (c_X5_away B.ge hS hc3) (cw_X5_away rfl rfl) q2047 q2048 rfl dX5_farOf_9 ?_
  refine r_iload_n (j := 0) B dX5_farOf_12 rfl rfl ?_
  refine r_bipush (v := 6) B dX5_farOf_13 (by decide) ?_
  refine r_idiv B dX5_farOf_15 (by decide) ?_
  refine r_iload_n (j := 1) B dX5_farOf_16 rfl rfl ?_
  refine r_bipush (v := 6) B dX5_farOf_17 (by decide) ?_
  refine r_idiv B dX5_farOf_19 (by decide) ?_
  refine r_isub B dX5_farOf_20 ?_
  obtain ⟨r4, s5, hc6, h⟩ := bnd_e h
  refine r_callSv (As := [vi ((p0 / (6 : Int32)) - (p1 / (6 : Int32)))]) (rest := [vi r1]) B rfl EX.same (c_X5_away B.ge hS hc6) (cw_X5_away rfl rfl) q2047 q2048 rfl dX5_farOf_21 ?_
  refine r_iadd B dX5_farOf_24 ?_
  exact r_iret B dX5_farOf_25 h
set_option maxHeartbeats 4000000 in
theorem cw_X5_farOf {X : CX} {fr lo : Nat} (h1 : Nat.ble (1 + 1) fr = true) (h2 : Nat.ble (21 + 20) lo = true) : CW X fr lo yX5_farOf cX5_farOf 2 (some .int) 1 20 2 := ⟨q2046, q136, ⟨by decide +kernel, by decide +kernel, by decide +kernel⟩, Nat.le_of_ble_eq_true h1, Nat.le_of_ble_eq_true h2⟩

set_option maxHeartbeats 4000000 in
noncomputable def F_X5_findHolders_163 (k30 : St → Int32 → Int32 → Int32 → Option (Unit × St)) (s : St) (x1 : Int32) (x2 : Int32) (x3 : Int32) (x5 : Int32) (z0 : Int32) (z1 : Int32) : Option (Unit × St) := gd (inb z1 6) <| nam (setI s 25 z1.toNatClampNeg (vp_nar .boolean z0)) fun s2 => if x5 ≤ x2 then (k30 s2 x1 x2 (x3 + (1))) else (k30 s2 x1 x5 (x3 + (1)))
set_option maxHeartbeats 4000000 in
theorem w_X5_findHolders_163 {X : CX} {E : EV} {a0 s' : St} {r : Unit} (B : FX X E cX5_findHolders 7 none "RoseThrowModel" "findHolders" (sn a0) (ss a0) 6 142) (hS : ∀ σ, eSk E σ → SkM σ) (k30 : St → Int32 → Int32 → Int32 → Option (Unit × St)) (hk30 : ∀ (s : St) (x1 : Int32) (x2 : Int32) (x3 : Int32), k30 s x1 x2 x3 = some (r, s') → J X E (sn a0) (ss a0) 7 (QR X E a0 none s') s 30 [(0, vr (some 0)), (1, vi x1), (2, vi x2), (3, vi x3)] []) (s : St) (x1 : Int32) (x2 : Int32) (x3 : Int32) (x5 : Int32) (z0 : Int32) (z1 : Int32) (h : F_X5_findHolders_163  k30 s x1 x2 x3 x5 z0 z1 = some (r, s')) : J X E (sn a0) (ss a0) 7 (QR X E a0 none s') s 163 [(0, vr (some 0)), (1, vi x1), (2, vi x2), (3, vi x3), (5, vi x5)] [vi z0, vi z1, vr (some 25)] := by
  unfold F_X5_findHolders_163 at h
  obtain ⟨hg1, h⟩ := gd_e h
  obtain ⟨s2, e3, h⟩ := nam_e h
  refine r_zast B e3 rfl (fun z => (hS _ z).1 25 (by decide)) hg1 dX5_findHolders_163 ?_
  refine r_iload (j := 4) B dX5_findHolders_164 rfl ?_
  refine r_iload_n (j := 2) B dX5_findHolders_166 rfl rfl ?_
  refine r_ic_le (tgt := 175) B dX5_findHolders_167 (by decide) (fun cn4 => ?_) (fun cn4 => ?_)
  · have h := ot cn4 h
    refine r_iload_n (j := 2) B dX5_findHolders_175 rfl rfl ?_
    refine r_istore_n (L' := [(0, vr (some 0)), (1, vi x1), (2, vi x2), (3, vi x3), (5, vi x5)]) B dX5_findHolders_176 rfl (by decide) rfl rfl rfl ?_
    refine r_iinc (j := 3) (v := (x3 + (1))) (L' := [(0, vr (some 0)), (1, vi x1), (2, vi x2), (3, vi (x3 + (1))), (5, vi x5)]) B dX5_findHolders_177 rfl rfl (by decide) rfl rfl rfl ?_
    refine r_goto (tgt := 30) B dX5_findHolders_180 (by decide) ?_
    refine r_pick [0, 1, 2, 3] (L' := [(0, vr (some 0)), (1, vi x1), (2, vi x2), (3, vi (x3 + (1)))]) rfl ?_
    exact hk30 s2 x1 x2 (x3 + (1)) h
  · have h := of cn4 h
    refine r_iload (j := 4) B dX5_findHolders_170 rfl ?_
    refine r_goto (tgt := 176) B dX5_findHolders_172 (by decide) ?_
    refine r_istore_n (L' := [(0, vr (some 0)), (1, vi x1), (2, vi x5), (3, vi x3), (5, vi x5)]) B dX5_findHolders_176 rfl (by decide) rfl rfl rfl ?_
    refine r_iinc (j := 3) (v := (x3 + (1))) (L' := [(0, vr (some 0)), (1, vi x1), (2, vi x5), (3, vi (x3 + (1))), (5, vi x5)]) B dX5_findHolders_177 rfl rfl (by decide) rfl rfl rfl ?_
    refine r_goto (tgt := 30) B dX5_findHolders_180 (by decide) ?_
    refine r_pick [0, 1, 2, 3] (L' := [(0, vr (some 0)), (1, vi x1), (2, vi x5), (3, vi (x3 + (1)))]) rfl ?_
    exact hk30 s2 x1 x5 (x3 + (1)) h
set_option maxHeartbeats 4000000 in
noncomputable def F_X5_findHolders_144 (k30 : St → Int32 → Int32 → Int32 → Option (Unit × St)) (s : St) (x1 : Int32) (x2 : Int32) (x3 : Int32) (x5 : Int32) (z0 : Int32) : Option (Unit × St) := nam (setI s 0 49 z0) fun s1 => if x5 < x2 then (F_X5_findHolders_163 k30 s1 x1 x2 x3 x5 (0 : Int32) x3) else (F_X5_findHolders_163 k30 s1 x1 x2 x3 x5 (1 : Int32) x3)
set_option maxHeartbeats 4000000 in
theorem w_X5_findHolders_144 {X : CX} {E : EV} {a0 s' : St} {r : Unit} (B : FX X E cX5_findHolders 7 none "RoseThrowModel" "findHolders" (sn a0) (ss a0) 6 142) (hS : ∀ σ, eSk E σ → SkM σ) (k30 : St → Int32 → Int32 → Int32 → Option (Unit × St)) (hk30 : ∀ (s : St) (x1 : Int32) (x2 : Int32) (x3 : Int32), k30 s x1 x2 x3 = some (r, s') → J X E (sn a0) (ss a0) 7 (QR X E a0 none s') s 30 [(0, vr (some 0)), (1, vi x1), (2, vi x2), (3, vi x3)] []) (s : St) (x1 : Int32) (x2 : Int32) (x3 : Int32) (x5 : Int32) (z0 : Int32) (h : F_X5_findHolders_144  k30 s x1 x2 x3 x5 z0 = some (r, s')) : J X E (sn a0) (ss a0) 7 (QR X E a0 none s') s 144 [(0, vr (some 0)), (1, vi x1), (2, vi x2), (3, vi x3), (5, vi x5)] [vi z0, vr (some 0)] := by
  unfold F_X5_findHolders_144 at h
  obtain ⟨s1, e2, h⟩ := nam_e h
  refine pI5 (k := 49) B e2 rfl (fun z => by rw [(hS _ z).1 0 (by decide)]; rfl) rfl q1566 rfl rfl (fun _ _ _ => rfl) rfl dX5_findHolders_144 ?_
  refine r_aload_n (j := 0) B dX5_findHolders_147 rfl rfl ?_
  refine g5 (k := 48) B (vr (some 25)) rfl (fun z => by rw [(hS _ z).1 0 (by decide)]; rfl) rfl q1565 rfl (fun z => by rw [(hS _ z).2 _ (List.mem_of_getElem? (i := 24) rfl)]; rfl) dX5_findHolders_148 ?_
  refine r_iload_n (j := 3) B dX5_findHolders_151 rfl rfl ?_
  refine r_iload (j := 4) B dX5_findHolders_152 rfl ?_
  refine r_iload_n (j := 2) B dX5_findHolders_154 rfl rfl ?_
  refine r_ic_lt (tgt := 162) B dX5_findHolders_155 (by decide) (fun cn3 => ?_) (fun cn3 => ?_)
  · have h := ot cn3 h
    refine r_iconst (v := 0) B dX5_findHolders_162 (by decide) ?_
    exact w_X5_findHolders_163 B hS k30 hk30 s1 x1 x2 x3 x5 (0 : Int32) x3 h
  · have h := of cn3 h
    refine r_iconst (v := 1) B dX5_findHolders_158 (by decide) ?_
    refine r_goto (tgt := 163) B dX5_findHolders_159 (by decide) ?_
    exact w_X5_findHolders_163 B hS k30 hk30 s1 x1 x2 x3 x5 (1 : Int32) x3 h
set_option maxHeartbeats 4000000 in
noncomputable def F_X5_findHolders_114 (k30 : St → Int32 → Int32 → Int32 → Option (Unit × St)) (s : St) (x1 : Int32) (x2 : Int32) (x3 : Int32) (x5 : Int32) : Option (Unit × St) := if x5 ≤ x2 then (if x5 = x2 then (F_X5_findHolders_144 k30 s x1 x2 x3 x5 ((si s 0 49) + (1 : Int32))) else (F_X5_findHolders_144 k30 s x1 x2 x3 x5 (si s 0 49))) else (F_X5_findHolders_144 k30 s x1 x2 x3 x5 (1 : Int32))
set_option maxHeartbeats 4000000 in
theorem w_X5_findHolders_114 {X : CX} {E : EV} {a0 s' : St} {r : Unit} (B : FX X E cX5_findHolders 7 none "RoseThrowModel" "findHolders" (sn a0) (ss a0) 6 142) (hS : ∀ σ, eSk E σ → SkM σ) (k30 : St → Int32 → Int32 → Int32 → Option (Unit × St)) (hk30 : ∀ (s : St) (x1 : Int32) (x2 : Int32) (x3 : Int32), k30 s x1 x2 x3 = some (r, s') → J X E (sn a0) (ss a0) 7 (QR X E a0 none s') s 30 [(0, vr (some 0)), (1, vi x1), (2, vi x2), (3, vi x3)] []) (s : St) (x1 : Int32) (x2 : Int32) (x3 : Int32) (x5 : Int32) (h : F_X5_findHolders_114  k30 s x1 x2 x3 x5 = some (r, s')) : J X E (sn a0) (ss a0) 7 (QR X E a0 none s') s 114 [(0, vr (some 0)), (1, vi x1), (2, vi x2), (3, vi x3), (5, vi x5)] [] := by
  unfold F_X5_findHolders_114 at h
  refine r_aload_n (j := 0) B dX5_findHolders_114 rfl rfl ?_
  refine r_iload (j := 4) B dX5_findHolders_115 rfl ?_
  refine r_iload_n (j := 2) B dX5_findHolders_117 rfl rfl ?_
  refine r_ic_le (tgt := 125) B dX5_findHolders_118 (by decide) (fun cn1 => ?_) (fun cn1 => ?_)
  · have h := ot cn1 h
    refine r_iload (j := 4) B dX5_findHolders_125 rfl ?_
    refine r_iload_n (j := 2) B dX5_findHolders_127 rfl rfl ?_
    refine r_ic_ne (tgt := 140) B dX5_findHolders_128 (by decide) (fun cn2 => ?_) (fun cn2 => ?_)
    · have h := of cn2 h
      refine r_aload_n (j := 0) B dX5_findHolders_140 rfl rfl ?_
      refine g5 (k := 49) B (vi (si s 0 49)) rfl (fun z => by rw [(hS _ z).1 0 (by decide)]; rfl) rfl q1566 rfl (fun _ => rfl) dX5_findHolders_141 ?_
      exact w_X5_findHolders_144 B hS k30 hk30 s x1 x2 x3 x5 (si s 0 49) h
    · have h := ot cn2 h
      refine r_aload_n (j := 0) B dX5_findHolders_131 rfl rfl ?_
      refine g5 (k := 49) B (vi (si s 0 49)) rfl (fun z => by rw [(hS _ z).1 0 (by decide)]; rfl) rfl q1566 rfl (fun _ => rfl) dX5_findHolders_132 ?_
      refine r_iconst (v := 1) B dX5_findHolders_135 (by decide) ?_
      refine r_iadd B dX5_findHolders_136 ?_
      refine r_goto (tgt := 144) B dX5_findHolders_137 (by decide) ?_
      exact w_X5_findHolders_144 B hS k30 hk30 s x1 x2 x3 x5 ((si s 0 49) + (1 : Int32)) h
  · have h := of cn1 h
    refine r_iconst (v := 1) B dX5_findHolders_121 (by decide) ?_
    refine r_goto (tgt := 144) B dX5_findHolders_122 (by decide) ?_
    exact w_X5_findHolders_144 B hS k30 hk30 s x1 x2 x3 x5 (1 : Int32) h
set_option maxHeartbeats 4000000 in
noncomputable def F_X5_findHolders_88 (k30 : St → Int32 → Int32 → Int32 → Option (Unit × St)) : Nat → St → Int32 → Int32 → Int32 → Int32 → Int32 → Option (Unit × St)
  | 0 => fun _ _ _ _ _ _ => none
  | n + 1 => fun s x1 x2 x3 x5 x6 => if x3 ≤ x6 then (F_X5_findHolders_114 k30 s x1 x2 x3 x5) else (if x5 ≤ x2 then (F_X5_findHolders_114 k30 s x1 x2 x3 x5) else (gd (inb x6 6) <| nam (setI s 25 x6.toNatClampNeg (vp_nar .boolean (0 : Int32))) fun s4 => F_X5_findHolders_88 k30 n s4 x1 x2 x3 x5 (x6 + (1))))
set_option maxHeartbeats 4000000 in
theorem w_X5_findHolders_88 {X : CX} {E : EV} {a0 s' : St} {r : Unit} (B : FX X E cX5_findHolders 7 none "RoseThrowModel" "findHolders" (sn a0) (ss a0) 6 142) (hS : ∀ σ, eSk E σ → SkM σ) (k30 : St → Int32 → Int32 → Int32 → Option (Unit × St)) (hk30 : ∀ (s : St) (x1 : Int32) (x2 : Int32) (x3 : Int32), k30 s x1 x2 x3 = some (r, s') → J X E (sn a0) (ss a0) 7 (QR X E a0 none s') s 30 [(0, vr (some 0)), (1, vi x1), (2, vi x2), (3, vi x3)] []) : ∀ (n : Nat) (s : St) (x1 : Int32) (x2 : Int32) (x3 : Int32) (x5 : Int32) (x6 : Int32), F_X5_findHolders_88  k30 n s x1 x2 x3 x5 x6 = some (r, s') → J X E (sn a0) (ss a0) 7 (QR X E a0 none s') s 88 [(0, vr (some 0)), (1, vi x1), (2, vi x2), (3, vi x3), (5, vi x5), (6, vi x6)] [] := by
  intro n
  induction n with
  | zero => intro s x1 x2 x3 x5 x6 h; exact absurd (show (none : Option (Unit × St)) = _ from h) (by simp)
  | succ n ih =>
    intro s x1 x2 x3 x5 x6 h
    rw [F_X5_findHolders_88] at h
    refine r_iload (j := 5) B dX5_findHolders_88 rfl ?_
    refine r_iload_n (j := 3) B dX5_findHolders_90 rfl rfl ?_
    refine r_ic_ge (tgt := 114) B dX5_findHolders_91 (by decide) (fun cn1 => ?_) (fun cn1 => ?_)
    · have h := ot cn1 h
      refine r_pick [0, 1, 2, 3, 4] (L' := [(0, vr (some 0)), (1, vi x1), (2, vi x2), (3, vi x3), (5, vi x5)]) rfl ?_
      exact w_X5_findHolders_114 B hS k30 hk30 s x1 x2 x3 x5 h
    · have h := of cn1 h
      refine r_iload (j := 4) B dX5_findHolders_94 rfl ?_
      refine r_iload_n (j := 2) B dX5_findHolders_96 rfl rfl ?_
      refine r_ic_le (tgt := 114) B dX5_findHolders_97 (by decide) (fun cn2 => ?_) (fun cn2 => ?_)
      · have h := ot cn2 h
        refine r_pick [0, 1, 2, 3, 4] (L' := [(0, vr (some 0)), (1, vi x1), (2, vi x2), (3, vi x3), (5, vi x5)]) rfl ?_
        exact w_X5_findHolders_114 B hS k30 hk30 s x1 x2 x3 x5 h
      · have h := of cn2 h
        refine r_aload_n (j := 0) B dX5_findHolders_100 rfl rfl ?_
        refine g5 (k := 48) B (vr (some 25)) rfl (fun z => by rw [(hS _ z).1 0 (by decide)]; rfl) rfl q1565 rfl (fun z => by rw [(hS _ z).2 _ (List.mem_of_getElem? (i := 24) rfl)]; rfl) dX5_findHolders_101 ?_
        refine r_iload (j := 5) B dX5_findHolders_104 rfl ?_
        refine r_iconst (v := 0) B dX5_findHolders_106 (by decide) ?_
        obtain ⟨hg3, h⟩ := gd_e h
        obtain ⟨s4, e5, h⟩ := nam_e h
        refine r_zast B e5 rfl (fun z => (hS _ z).1 25 (by decide)) hg3 dX5_findHolders_107 ?_
        refine r_iinc (j := 5) (v := (x6 + (1))) (L' := [(0, vr (some 0)), (1, vi x1), (2, vi x2), (3, vi x3), (5, vi x5), (6, vi (x6 + (1)))]) B dX5_findHolders_108 rfl rfl (by decide) rfl rfl rfl ?_
        refine r_goto (tgt := 88) B dX5_findHolders_111 (by decide) ?_
        exact ih s4 x1 x2 x3 x5 (x6 + (1)) h
set_option maxHeartbeats 4000000 in
noncomputable def F_X5_findHolders_258 (k210 : St → Int32 → Int32 → Option (Unit × St)) (s : St) (x3 : Int32) (x4 : Int32) (z0 : Int32) (z1 : Int32) : Option (Unit × St) := gd (inb z1 6) <| nam (setI s 25 z1.toNatClampNeg (vp_nar .boolean z0)) fun s2 => if x3 = 0 then (k210 s2 (0 : Int32) (x4 + (1))) else (gd (inb x4 6) <| if (si s2 25 x4.toNatClampNeg) = 0 then (k210 s2 (1 : Int32) (x4 + (1))) else (k210 s2 (0 : Int32) (x4 + (1))))
set_option maxHeartbeats 4000000 in
theorem w_X5_findHolders_258 {X : CX} {E : EV} {a0 s' : St} {r : Unit} (B : FX X E cX5_findHolders 7 none "RoseThrowModel" "findHolders" (sn a0) (ss a0) 6 142) (hS : ∀ σ, eSk E σ → SkM σ) (k210 : St → Int32 → Int32 → Option (Unit × St)) (hk210 : ∀ (s : St) (x3 : Int32) (x4 : Int32), k210 s x3 x4 = some (r, s') → J X E (sn a0) (ss a0) 7 (QR X E a0 none s') s 210 [(0, vr (some 0)), (3, vi x3), (4, vi x4)] []) (s : St) (x3 : Int32) (x4 : Int32) (z0 : Int32) (z1 : Int32) (h : F_X5_findHolders_258  k210 s x3 x4 z0 z1 = some (r, s')) : J X E (sn a0) (ss a0) 7 (QR X E a0 none s') s 258 [(0, vr (some 0)), (3, vi x3), (4, vi x4)] [vi z0, vi z1, vr (some 25)] := by
  unfold F_X5_findHolders_258 at h
  obtain ⟨hg1, h⟩ := gd_e h
  obtain ⟨s2, e3, h⟩ := nam_e h
  refine r_zast B e3 rfl (fun z => (hS _ z).1 25 (by decide)) hg1 dX5_findHolders_258 ?_
  refine r_iload_n (j := 1) B dX5_findHolders_259 rfl rfl ?_
  refine r_if_eq (tgt := 277) B dX5_findHolders_260 (by decide) (fun cn4 => ?_) (fun cn4 => ?_)
  · have h := ot cn4 h
    refine r_iconst (v := 0) B dX5_findHolders_277 (by decide) ?_
    refine r_istore_n (L' := [(0, vr (some 0)), (3, vi (0 : Int32)), (4, vi x4)]) B dX5_findHolders_278 rfl (by decide) rfl rfl rfl ?_
    refine r_iinc (j := 2) (v := (x4 + (1))) (L' := [(0, vr (some 0)), (3, vi (0 : Int32)), (4, vi (x4 + (1)))]) B dX5_findHolders_279 rfl rfl (by decide) rfl rfl rfl ?_
    refine r_goto (tgt := 210) B dX5_findHolders_282 (by decide) ?_
    exact hk210 s2 (0 : Int32) (x4 + (1)) h
  · have h := of cn4 h
    refine r_aload_n (j := 0) B dX5_findHolders_263 rfl rfl ?_
    refine g5 (k := 48) B (vr (some 25)) rfl (fun z => by rw [(hS _ z).1 0 (by decide)]; rfl) rfl q1565 rfl (fun z => by rw [(hS _ z).2 _ (List.mem_of_getElem? (i := 24) rfl)]; rfl) dX5_findHolders_264 ?_
    refine r_iload (j := 2) B dX5_findHolders_267 rfl ?_
    obtain ⟨hg5, h⟩ := gd_e h
    refine r_zald B rfl (fun z => (hS _ z).1 25 (by decide)) hg5 dX5_findHolders_269 ?_
    refine r_if_ne (tgt := 277) B dX5_findHolders_270 (by decide) (fun cn6 => ?_) (fun cn6 => ?_)
    · have h := of cn6 h
      refine r_iconst (v := 0) B dX5_findHolders_277 (by decide) ?_
      refine r_istore_n (L' := [(0, vr (some 0)), (3, vi (0 : Int32)), (4, vi x4)]) B dX5_findHolders_278 rfl (by decide) rfl rfl rfl ?_
      refine r_iinc (j := 2) (v := (x4 + (1))) (L' := [(0, vr (some 0)), (3, vi (0 : Int32)), (4, vi (x4 + (1)))]) B dX5_findHolders_279 rfl rfl (by decide) rfl rfl rfl ?_
      refine r_goto (tgt := 210) B dX5_findHolders_282 (by decide) ?_
      exact hk210 s2 (0 : Int32) (x4 + (1)) h
    · have h := ot cn6 h
      refine r_iconst (v := 1) B dX5_findHolders_273 (by decide) ?_
      refine r_goto (tgt := 278) B dX5_findHolders_274 (by decide) ?_
      refine r_istore_n (L' := [(0, vr (some 0)), (3, vi (1 : Int32)), (4, vi x4)]) B dX5_findHolders_278 rfl (by decide) rfl rfl rfl ?_
      refine r_iinc (j := 2) (v := (x4 + (1))) (L' := [(0, vr (some 0)), (3, vi (1 : Int32)), (4, vi (x4 + (1)))]) B dX5_findHolders_279 rfl rfl (by decide) rfl rfl rfl ?_
      refine r_goto (tgt := 210) B dX5_findHolders_282 (by decide) ?_
      exact hk210 s2 (1 : Int32) (x4 + (1)) h
set_option maxHeartbeats 4000000 in
noncomputable def F_X5_findHolders_257 (k210 : St → Int32 → Int32 → Option (Unit × St)) (s : St) (x3 : Int32) (x4 : Int32) (z0 : Int32) : Option (Unit × St) := F_X5_findHolders_258 k210 s x3 x4 (0 : Int32) z0
set_option maxHeartbeats 4000000 in
theorem w_X5_findHolders_257 {X : CX} {E : EV} {a0 s' : St} {r : Unit} (B : FX X E cX5_findHolders 7 none "RoseThrowModel" "findHolders" (sn a0) (ss a0) 6 142) (hS : ∀ σ, eSk E σ → SkM σ) (k210 : St → Int32 → Int32 → Option (Unit × St)) (hk210 : ∀ (s : St) (x3 : Int32) (x4 : Int32), k210 s x3 x4 = some (r, s') → J X E (sn a0) (ss a0) 7 (QR X E a0 none s') s 210 [(0, vr (some 0)), (3, vi x3), (4, vi x4)] []) (s : St) (x3 : Int32) (x4 : Int32) (z0 : Int32) (h : F_X5_findHolders_257  k210 s x3 x4 z0 = some (r, s')) : J X E (sn a0) (ss a0) 7 (QR X E a0 none s') s 257 [(0, vr (some 0)), (3, vi x3), (4, vi x4)] [vi z0, vr (some 25)] := by
  unfold F_X5_findHolders_257 at h
  refine r_iconst (v := 0) B dX5_findHolders_257 (by decide) ?_
  exact w_X5_findHolders_258 B hS k210 hk210 s x3 x4 (0 : Int32) z0 h
set_option maxHeartbeats 4000000 in
noncomputable def F_X5_findHolders_311 (s : St) (z0 : Int32) : Option (Unit × St) := nam (setI s 0 49 z0) fun s1 => some ((), s1)
set_option maxHeartbeats 4000000 in
theorem w_X5_findHolders_311 {X : CX} {E : EV} {a0 s' : St} {r : Unit} (B : FX X E cX5_findHolders 7 none "RoseThrowModel" "findHolders" (sn a0) (ss a0) 6 142) (hS : ∀ σ, eSk E σ → SkM σ) (s : St) (z0 : Int32) (h : F_X5_findHolders_311   s z0 = some (r, s')) : J X E (sn a0) (ss a0) 7 (QR X E a0 none s') s 311 [] [vi z0, vr (some 0)] := by
  unfold F_X5_findHolders_311 at h
  obtain ⟨s1, e2, h⟩ := nam_e h
  refine pI5 (k := 49) B e2 rfl (fun z => by rw [(hS _ z).1 0 (by decide)]; rfl) rfl q1566 rfl rfl (fun _ _ _ => rfl) rfl dX5_findHolders_311 ?_
  exact r_vret B dX5_findHolders_314 h
set_option maxHeartbeats 4000000 in
noncomputable def F_X5_findHolders_307 (s : St)  : Option (Unit × St) := F_X5_findHolders_311 s (si s 0 49)
set_option maxHeartbeats 4000000 in
theorem w_X5_findHolders_307 {X : CX} {E : EV} {a0 s' : St} {r : Unit} (B : FX X E cX5_findHolders 7 none "RoseThrowModel" "findHolders" (sn a0) (ss a0) 6 142) (hS : ∀ σ, eSk E σ → SkM σ) (s : St)  (h : F_X5_findHolders_307   s  = some (r, s')) : J X E (sn a0) (ss a0) 7 (QR X E a0 none s') s 307 [(0, vr (some 0))] [vr (some 0)] := by
  unfold F_X5_findHolders_307 at h
  refine r_aload_n (j := 0) B dX5_findHolders_307 rfl rfl ?_
  refine g5 (k := 49) B (vi (si s 0 49)) rfl (fun z => by rw [(hS _ z).1 0 (by decide)]; rfl) rfl q1566 rfl (fun _ => rfl) dX5_findHolders_308 ?_
  refine r_pick [] (L' := []) rfl ?_
  exact w_X5_findHolders_311 B hS s (si s 0 49) h
set_option maxHeartbeats 4000000 in
noncomputable def F_X5_findHolders_253 (k210 : St → Int32 → Int32 → Option (Unit × St)) (s : St) (x3 : Int32) (x4 : Int32) (z0 : Int32) : Option (Unit × St) := F_X5_findHolders_258 k210 s x3 x4 (1 : Int32) z0
set_option maxHeartbeats 4000000 in
theorem w_X5_findHolders_253 {X : CX} {E : EV} {a0 s' : St} {r : Unit} (B : FX X E cX5_findHolders 7 none "RoseThrowModel" "findHolders" (sn a0) (ss a0) 6 142) (hS : ∀ σ, eSk E σ → SkM σ) (k210 : St → Int32 → Int32 → Option (Unit × St)) (hk210 : ∀ (s : St) (x3 : Int32) (x4 : Int32), k210 s x3 x4 = some (r, s') → J X E (sn a0) (ss a0) 7 (QR X E a0 none s') s 210 [(0, vr (some 0)), (3, vi x3), (4, vi x4)] []) (s : St) (x3 : Int32) (x4 : Int32) (z0 : Int32) (h : F_X5_findHolders_253  k210 s x3 x4 z0 = some (r, s')) : J X E (sn a0) (ss a0) 7 (QR X E a0 none s') s 253 [(0, vr (some 0)), (3, vi x3), (4, vi x4)] [vi z0, vr (some 25)] := by
  unfold F_X5_findHolders_253 at h
  refine r_iconst (v := 1) B dX5_findHolders_253 (by decide) ?_
  refine r_goto (tgt := 258) B dX5_findHolders_254 (by decide) ?_
  exact w_X5_findHolders_258 B hS k210 hk210 s x3 x4 (1 : Int32) z0 h
set_option maxHeartbeats 4000000 in
noncomputable def F_X5_findHolders_210 : Nat → St → Int32 → Int32 → Option (Unit × St)
  | 0 => fun _ _ _ => none
  | n + 1 => fun s x3 x4 => if (6 : Int32) ≤ x4 then (if (si s 0 49) ≤ (1 : Int32) then (F_X5_findHolders_307 s) else (bnd (F_X5_term s (5 : Int32)) fun r3 s4 => if r3 = (1 : Int32) then (F_X5_findHolders_311 s4 (1 : Int32)) else (F_X5_findHolders_307 s4))) else (gd (inb x4 6) <| if (si s 25 x4.toNatClampNeg) = 0 then (F_X5_findHolders_257 (F_X5_findHolders_210  n) s x3 x4 x4) else (if (si s 0 49) ≤ 0 then (F_X5_findHolders_257 (F_X5_findHolders_210  n) s x3 x4 x4) else (bnd (F_X5_term s (5 : Int32)) fun r10 s11 => if r10 = (1 : Int32) then (if x3 = 0 then (F_X5_findHolders_257 (F_X5_findHolders_210  n) s11 x3 x4 x4) else (F_X5_findHolders_253 (F_X5_findHolders_210  n) s11 x3 x4 x4)) else (F_X5_findHolders_253 (F_X5_findHolders_210  n) s11 x3 x4 x4))))
set_option maxHeartbeats 4000000 in
theorem w_X5_findHolders_210 {X : CX} {E : EV} {a0 s' : St} {r : Unit} (B : FX X E cX5_findHolders 7 none "RoseThrowModel" "findHolders" (sn a0) (ss a0) 6 142) (hS : ∀ σ, eSk E σ → SkM σ) : ∀ (n : Nat) (s : St) (x3 : Int32) (x4 : Int32), F_X5_findHolders_210   n s x3 x4 = some (r, s') → J X E (sn a0) (ss a0) 7 (QR X E a0 none s') s 210 [(0, vr (some 0)), (3, vi x3), (4, vi x4)] [] := by
  intro n
  induction n with
  | zero => intro s x3 x4 h; exact absurd (show (none : Option (Unit × St)) = _ from h) (by simp)
  | succ n ih =>
    intro s x3 x4 h
    rw [F_X5_findHolders_210] at h
    refine r_iload (j := 2) B dX5_findHolders_210 rfl ?_
    refine r_bipush (v := 6) B dX5_findHolders_212 (by decide) ?_
    refine r_ic_ge (tgt := 285) B dX5_findHolders_214 (by decide) (fun cn1 => ?_) (fun cn1 => ?_)
    · have h := ot cn1 h
      refine r_aload_n (j := 0) B dX5_findHolders_285 rfl rfl ?_
      refine r_aload_n (j := 0) B dX5_findHolders_286 rfl rfl ?_
      refine g5 (k := 49) B (vi (si s 0 49)) rfl (fun z => by rw [(hS _ z).1 0 (by decide)]; rfl) rfl q1566 rfl (fun _ => rfl) dX5_findHolders_287 ?_
      refine r_iconst (v := 1) B dX5_findHolders_290 (by decide) ?_
      refine r_ic_le (tgt := 307) B dX5_findHolders_291 (by decide) (fun cn2 => ?_) (fun cn2 => ?_)
      · have h := ot cn2 h
        refine r_pick [0] (L' := [(0, vr (some 0))]) rfl ?_
        exact w_X5_findHolders_307 B hS s h
      · have h := of cn2 h
        refine r_aload_n (j := 0) B dX5_findHolders_294 rfl rfl ?_
        refine r_iconst (v := 5) B dX5_findHolders_295 (by decide) ?_
        obtain ⟨r3, s4, hc5, h⟩ := bnd_e h
        refine r_callVv (As := [vi (5 : Int32)]) (rest := [vr (some 0)]) B rfl rfl EX.same (c_X5_term B.ge hS hc5) (cw_X5_term rfl rfl) (fun z => RV.of 5 ((fun z => by rw [(hS _ z).1 0 (by decide)]; rfl) z) rfl rfl qs56) q1783 q1785 rfl dX5_findHolders_296 ?_
        refine r_iconst (v := 1) B dX5_findHolders_299 (by decide) ?_
        refine r_ic_ne (tgt := 307) B dX5_findHolders_300 (by decide) (fun cn6 => ?_) (fun cn6 => ?_)
        · have h := of cn6 h
          refine r_pick [0] (L' := [(0, vr (some 0))]) rfl ?_
          exact w_X5_findHolders_307 B hS s4 h
        · have h := ot cn6 h
          refine r_iconst (v := 1) B dX5_findHolders_303 (by decide) ?_
          refine r_goto (tgt := 311) B dX5_findHolders_304 (by decide) ?_
          refine r_pick [] (L' := []) rfl ?_
          exact w_X5_findHolders_311 B hS s4 (1 : Int32) h
    · have h := of cn1 h
      refine r_aload_n (j := 0) B dX5_findHolders_217 rfl rfl ?_
      refine g5 (k := 48) B (vr (some 25)) rfl (fun z => by rw [(hS _ z).1 0 (by decide)]; rfl) rfl q1565 rfl (fun z => by rw [(hS _ z).2 _ (List.mem_of_getElem? (i := 24) rfl)]; rfl) dX5_findHolders_218 ?_
      refine r_iload (j := 2) B dX5_findHolders_221 rfl ?_
      refine r_aload_n (j := 0) B dX5_findHolders_223 rfl rfl ?_
      refine g5 (k := 48) B (vr (some 25)) rfl (fun z => by rw [(hS _ z).1 0 (by decide)]; rfl) rfl q1565 rfl (fun z => by rw [(hS _ z).2 _ (List.mem_of_getElem? (i := 24) rfl)]; rfl) dX5_findHolders_224 ?_
      refine r_iload (j := 2) B dX5_findHolders_227 rfl ?_
      obtain ⟨hg7, h⟩ := gd_e h
      refine r_zald B rfl (fun z => (hS _ z).1 25 (by decide)) hg7 dX5_findHolders_229 ?_
      refine r_if_eq (tgt := 257) B dX5_findHolders_230 (by decide) (fun cn8 => ?_) (fun cn8 => ?_)
      · have h := ot cn8 h
        exact w_X5_findHolders_257 B hS (F_X5_findHolders_210  n) ih s x3 x4 x4 h
      · have h := of cn8 h
        refine r_aload_n (j := 0) B dX5_findHolders_233 rfl rfl ?_
        refine g5 (k := 49) B (vi (si s 0 49)) rfl (fun z => by rw [(hS _ z).1 0 (by decide)]; rfl) rfl q1566 rfl (fun _ => rfl) dX5_findHolders_234 ?_
        refine r_if_le (tgt := 257) B dX5_findHolders_237 (by decide) (fun cn9 => ?_) (fun cn9 => ?_)
        · have h := ot cn9 h
          exact w_X5_findHolders_257 B hS (F_X5_findHolders_210  n) ih s x3 x4 x4 h
        · have h := of cn9 h
          refine r_aload_n (j := 0) B dX5_findHolders_240 rfl rfl ?_
          refine r_iconst (v := 5) B dX5_findHolders_241 (by decide) ?_
          obtain ⟨r10, s11, hc12, h⟩ := bnd_e h
          refine r_callVv (As := [vi (5 : Int32)]) (rest := [vi x4, vr (some 25)]) B rfl rfl EX.same (c_X5_term B.ge hS hc12) (cw_X5_term rfl rfl) (fun z => RV.of 5 ((fun z => by rw [(hS _ z).1 0 (by decide)]; rfl) z) rfl rfl qs56) q1783 q1785 rfl dX5_findHolders_242 ?_
          refine r_iconst (v := 1) B dX5_findHolders_245 (by decide) ?_
          refine r_ic_ne (tgt := 253) B dX5_findHolders_246 (by decide) (fun cn13 => ?_) (fun cn13 => ?_)
          · have h := of cn13 h
            exact w_X5_findHolders_253 B hS (F_X5_findHolders_210  n) ih s11 x3 x4 x4 h
          · have h := ot cn13 h
            refine r_iload_n (j := 1) B dX5_findHolders_249 rfl rfl ?_
            refine r_if_eq (tgt := 257) B dX5_findHolders_250 (by decide) (fun cn14 => ?_) (fun cn14 => ?_)
            · have h := ot cn14 h
              exact w_X5_findHolders_257 B hS (F_X5_findHolders_210  n) ih s11 x3 x4 x4 h
            · have h := of cn14 h
              exact w_X5_findHolders_253 B hS (F_X5_findHolders_210  n) ih s11 x3 x4 x4 h
set_option maxHeartbeats 4000000 in
noncomputable def F_X5_findHolders_205 (s : St)  : Option (Unit × St) := F_X5_findHolders_210 FU s (1 : Int32) (0 : Int32)
set_option maxHeartbeats 4000000 in
theorem w_X5_findHolders_205 {X : CX} {E : EV} {a0 s' : St} {r : Unit} (B : FX X E cX5_findHolders 7 none "RoseThrowModel" "findHolders" (sn a0) (ss a0) 6 142) (hS : ∀ σ, eSk E σ → SkM σ) (s : St)  (h : F_X5_findHolders_205   s  = some (r, s')) : J X E (sn a0) (ss a0) 7 (QR X E a0 none s') s 205 [(0, vr (some 0))] [] := by
  unfold F_X5_findHolders_205 at h
  refine r_iconst (v := 1) B dX5_findHolders_205 (by decide) ?_
  refine r_istore_n (L' := [(0, vr (some 0)), (3, vi (1 : Int32))]) B dX5_findHolders_206 rfl (by decide) rfl rfl rfl ?_
  refine r_iconst (v := 0) B dX5_findHolders_207 (by decide) ?_
  refine r_istore (L' := [(0, vr (some 0)), (3, vi (1 : Int32)), (4, vi (0 : Int32))]) B dX5_findHolders_208 (by decide) rfl rfl rfl ?_
  exact w_X5_findHolders_210 B hS FU s (1 : Int32) (0 : Int32) h
set_option maxHeartbeats 4000000 in
noncomputable def F_X5_findHolders_183 (s : St)  : Option (Unit × St) := if (si s 0 49) ≤ (1 : Int32) then (F_X5_findHolders_205 s) else (bnd (F_X5_term s (5 : Int32)) fun r2 s3 => if r2 = (2 : Int32) then (nam (setI s3 0 49 (0 : Int32)) fun s6 => F_X5_findHolders_205 s6) else (F_X5_findHolders_205 s3))
set_option maxHeartbeats 4000000 in
theorem w_X5_findHolders_183 {X : CX} {E : EV} {a0 s' : St} {r : Unit} (B : FX X E cX5_findHolders 7 none "RoseThrowModel" "findHolders" (sn a0) (ss a0) 6 142) (hS : ∀ σ, eSk E σ → SkM σ) (s : St)  (h : F_X5_findHolders_183   s  = some (r, s')) : J X E (sn a0) (ss a0) 7 (QR X E a0 none s') s 183 [(0, vr (some 0))] [] := by
  unfold F_X5_findHolders_183 at h
  refine r_aload_n (j := 0) B dX5_findHolders_183 rfl rfl ?_
  refine g5 (k := 49) B (vi (si s 0 49)) rfl (fun z => by rw [(hS _ z).1 0 (by decide)]; rfl) rfl q1566 rfl (fun _ => rfl) dX5_findHolders_184 ?_
  refine r_iconst (v := 1) B dX5_findHolders_187 (by decide) ?_
  refine r_ic_le (tgt := 205) B dX5_findHolders_188 (by decide) (fun cn1 => ?_) (fun cn1 => ?_)
  · have h := ot cn1 h
    exact w_X5_findHolders_205 B hS s h
  · have h := of cn1 h
    refine r_aload_n (j := 0) B dX5_findHolders_191 rfl rfl ?_
    refine r_iconst (v := 5) B dX5_findHolders_192 (by decide) ?_
    obtain ⟨r2, s3, hc4, h⟩ := bnd_e h
    refine r_callVv (As := [vi (5 : Int32)]) (rest := []) B rfl rfl EX.same (c_X5_term B.ge hS hc4) (cw_X5_term rfl rfl) (fun z => RV.of 5 ((fun z => by rw [(hS _ z).1 0 (by decide)]; rfl) z) rfl rfl qs56) q1783 q1785 rfl dX5_findHolders_193 ?_
    refine r_iconst (v := 2) B dX5_findHolders_196 (by decide) ?_
    refine r_ic_ne (tgt := 205) B dX5_findHolders_197 (by decide) (fun cn5 => ?_) (fun cn5 => ?_)
    · have h := of cn5 h
      exact w_X5_findHolders_205 B hS s3 h
    · have h := ot cn5 h
      refine r_aload_n (j := 0) B dX5_findHolders_200 rfl rfl ?_
      refine r_iconst (v := 0) B dX5_findHolders_201 (by decide) ?_
      obtain ⟨s6, e7, h⟩ := nam_e h
      refine pI5 (k := 49) B e7 rfl (fun z => by rw [(hS _ z).1 0 (by decide)]; rfl) rfl q1566 rfl rfl (fun _ _ _ => rfl) rfl dX5_findHolders_202 ?_
      exact w_X5_findHolders_205 B hS s6 h
set_option maxHeartbeats 4000000 in
noncomputable def F_X5_findHolders_30 : Nat → St → Int32 → Int32 → Int32 → Option (Unit × St)
  | 0 => fun _ _ _ _ => none
  | n + 1 => fun s x1 x2 x3 => if (si s 0 50) ≤ x3 then (F_X5_findHolders_183 s) else (if x1 = (36 : Int32) then (F_X5_findHolders_183 s) else (bnd (F_X5_ofCatcher s x3 (3 : Int32)) fun r3 s4 => bnd (F_X5_farOf s4 r3 x1) fun r6 s7 => bnd (F_X5_ofCatcher s7 x3 (1 : Int32)) fun r9 s10 => if r9 ≤ 0 then (F_X5_findHolders_30  n s10 x1 x2 (x3 + (1))) else (bnd (F_X5_ofCatcher s10 x3 (0 : Int32)) fun r13 s14 => if r13 < r6 then (F_X5_findHolders_30  n s14 x1 x2 (x3 + (1))) else (bnd (F_X5_gripOf s14 x3 r6) fun r17 s18 => F_X5_findHolders_88 (F_X5_findHolders_30  n) FU s18 x1 x2 x3 r17 (0 : Int32)))))
set_option maxHeartbeats 4000000 in
theorem w_X5_findHolders_30 {X : CX} {E : EV} {a0 s' : St} {r : Unit} (B : FX X E cX5_findHolders 7 none "RoseThrowModel" "findHolders" (sn a0) (ss a0) 6 142) (hS : ∀ σ, eSk E σ → SkM σ) : ∀ (n : Nat) (s : St) (x1 : Int32) (x2 : Int32) (x3 : Int32), F_X5_findHolders_30   n s x1 x2 x3 = some (r, s') → J X E (sn a0) (ss a0) 7 (QR X E a0 none s') s 30 [(0, vr (some 0)), (1, vi x1), (2, vi x2), (3, vi x3)] [] := by
  intro n
  induction n with
  | zero => intro s x1 x2 x3 h; exact absurd (show (none : Option (Unit × St)) = _ from h) (by simp)
  | succ n ih =>
    intro s x1 x2 x3 h
    rw [F_X5_findHolders_30] at h
    refine r_iload_n (j := 3) B dX5_findHolders_30 rfl rfl ?_
    refine r_aload_n (j := 0) B dX5_findHolders_31 rfl rfl ?_
    refine g5 (k := 50) B (vi (si s 0 50)) rfl (fun z => by rw [(hS _ z).1 0 (by decide)]; rfl) rfl q1567 rfl (fun _ => rfl) dX5_findHolders_32 ?_
    refine r_ic_ge (tgt := 183) B dX5_findHolders_35 (by decide) (fun cn1 => ?_) (fun cn1 => ?_)
    · have h := ot cn1 h
      refine r_pick [0] (L' := [(0, vr (some 0))]) rfl ?_
      exact w_X5_findHolders_183 B hS s h
    · have h := of cn1 h
      refine r_iload_n (j := 1) B dX5_findHolders_38 rfl rfl ?_
      refine r_bipush (v := 36) B dX5_findHolders_39 (by decide) ?_
      refine r_ic_eq (tgt := 183) B dX5_findHolders_41 (by decide) (fun cn2 => ?_) (fun cn2 => ?_)
      · have h := ot cn2 h
        refine r_pick [0] (L' := [(0, vr (some 0))]) rfl ?_
        exact w_X5_findHolders_183 B hS s h
      · have h := of cn2 h
        refine r_aload_n (j := 0) B dX5_findHolders_44 rfl rfl ?_
        refine r_iload_n (j := 3) B dX5_findHolders_45 rfl rfl ?_
        refine r_iconst (v := 3) B dX5_findHolders_46 (by decide) ?_
        obtain ⟨r3, s4, hc5, h⟩ := bnd_e h
        refine r_callVv (As := [vi x3, vi (3 : Int32)]) (rest := []) B rfl rfl EX.same (c_X5_ofCatcher B.ge hS hc5) (cw_X5_ofCatcher rfl rfl) (fun z => RV.of 5 ((fun z => by rw [(hS _ z).1 0 (by decide)]; rfl) z) rfl rfl qs52) q1766 q1768 rfl dX5_findHolders_47 ?_
        refine r_iload_n (j := 1) B dX5_findHolders_50 rfl rfl ?_
        obtain ⟨r6, s7, hc8, h⟩ := bnd_e h
        refine r_callSv (As := [vi r3, vi x1]) (rest := []) B rfl EX.same (c_X5_farOf B.ge hS hc8) (cw_X5_farOf rfl rfl) q2044 q2045 rfl dX5_findHolders_51 ?_
        refine r_istore (L' := [(0, vr (some 0)), (1, vi x1), (2, vi x2), (3, vi x3), (4, vi r6)]) B dX5_findHolders_54 (by decide) rfl rfl rfl ?_
        refine r_aload_n (j := 0) B dX5_findHolders_56 rfl rfl ?_
        refine r_iload_n (j := 3) B dX5_findHolders_57 rfl rfl ?_
        refine r_iconst (v := 1) B dX5_findHolders_58 (by decide) ?_
        obtain ⟨r9, s10, hc11, h⟩ := bnd_e h
        refine r_callVv (As := [vi x3, vi (1 : Int32)]) (rest := []) B rfl rfl EX.same (c_X5_ofCatcher B.ge hS hc11) (cw_X5_ofCatcher rfl rfl) (fun z => RV.of 5 ((fun z => by rw [(hS _ z).1 0 (by decide)]; rfl) z) rfl rfl qs52) q1766 q1768 rfl dX5_findHolders_59 ?_
        refine r_if_le (tgt := 177) B dX5_findHolders_62 (by decide) (fun cn12 => ?_) (fun cn12 => ?_)
        · have h := ot cn12 h
          refine r_iinc (j := 3) (v := (x3 + (1))) (L' := [(0, vr (some 0)), (1, vi x1), (2, vi x2), (3, vi (x3 + (1))), (4, vi r6)]) B dX5_findHolders_177 rfl rfl (by decide) rfl rfl rfl ?_
          refine r_goto (tgt := 30) B dX5_findHolders_180 (by decide) ?_
          refine r_pick [0, 1, 2, 3] (L' := [(0, vr (some 0)), (1, vi x1), (2, vi x2), (3, vi (x3 + (1)))]) rfl ?_
          exact ih s10 x1 x2 (x3 + (1)) h
        · have h := of cn12 h
          refine r_iload (j := 4) B dX5_findHolders_65 rfl ?_
          refine r_aload_n (j := 0) B dX5_findHolders_67 rfl rfl ?_
          refine r_iload_n (j := 3) B dX5_findHolders_68 rfl rfl ?_
          refine r_iconst (v := 0) B dX5_findHolders_69 (by decide) ?_
          obtain ⟨r13, s14, hc15, h⟩ := bnd_e h
          refine r_callVv (As := [vi x3, vi (0 : Int32)]) (rest := [vi r6]) B rfl rfl EX.same (c_X5_ofCatcher B.ge hS hc15) (cw_X5_ofCatcher rfl rfl) (fun z => RV.of 5 ((fun z => by rw [(hS _ z).1 0 (by decide)]; rfl) z) rfl rfl qs52) q1766 q1768 rfl dX5_findHolders_70 ?_
          refine r_ic_gt (tgt := 177) B dX5_findHolders_73 (by decide) (fun cn16 => ?_) (fun cn16 => ?_)
          · have h := ot cn16 h
            refine r_iinc (j := 3) (v := (x3 + (1))) (L' := [(0, vr (some 0)), (1, vi x1), (2, vi x2), (3, vi (x3 + (1))), (4, vi r6)]) B dX5_findHolders_177 rfl rfl (by decide) rfl rfl rfl ?_
            refine r_goto (tgt := 30) B dX5_findHolders_180 (by decide) ?_
            refine r_pick [0, 1, 2, 3] (L' := [(0, vr (some 0)), (1, vi x1), (2, vi x2), (3, vi (x3 + (1)))]) rfl ?_
            exact ih s14 x1 x2 (x3 + (1)) h
          · have h := of cn16 h
            refine r_aload_n (j := 0) B dX5_findHolders_76 rfl rfl ?_
            refine r_iload_n (j := 3) B dX5_findHolders_77 rfl rfl ?_
            refine r_iload (j := 4) B dX5_findHolders_78 rfl ?_
            obtain ⟨r17, s18, hc19, h⟩ := bnd_e h
            refine r_callVv (As := [vi x3, vi r6]) (rest := []) B rfl rfl EX.same (c_X5_gripOf B.ge hS hc19) (cw_X5_gripOf rfl rfl) (fun z => RV.of 5 ((fun z => by rw [(hS _ z).1 0 (by decide)]; rfl) z) rfl rfl qs88) q1985 q1987 rfl dX5_findHolders_80 ?_
            refine r_istore (L' := [(0, vr (some 0)), (1, vi x1), (2, vi x2), (3, vi x3), (4, vi r6), (5, vi r17)]) B dX5_findHolders_83 (by decide) rfl rfl rfl ?_
            refine r_iconst (v := 0) B dX5_findHolders_85 (by decide) ?_
            refine r_istore (L' := [(0, vr (some 0)), (1, vi x1), (2, vi x2), (3, vi x3), (4, vi r6), (5, vi r17), (6, vi (0 : Int32))]) B dX5_findHolders_86 (by decide) rfl rfl rfl ?_
            refine r_pick [0, 1, 2, 3, 5, 6] (L' := [(0, vr (some 0)), (1, vi x1), (2, vi x2), (3, vi x3), (5, vi r17), (6, vi (0 : Int32))]) rfl ?_
            exact w_X5_findHolders_88 B hS (F_X5_findHolders_30  n) ih FU s18 x1 x2 x3 r17 (0 : Int32) h
set_option maxHeartbeats 4000000 in
noncomputable def F_X5_findHolders_9 : Nat → St → Int32 → Int32 → Int32 → Option (Unit × St)
  | 0 => fun _ _ _ _ => none
  | n + 1 => fun s x1 x2 x3 => if (6 : Int32) ≤ x3 then (F_X5_findHolders_30 FU s x1 x2 (0 : Int32)) else (gd (inb x3 6) <| nam (setI s 25 x3.toNatClampNeg (vp_nar .boolean (0 : Int32))) fun s3 => F_X5_findHolders_9  n s3 x1 x2 (x3 + (1)))
set_option maxHeartbeats 4000000 in
theorem w_X5_findHolders_9 {X : CX} {E : EV} {a0 s' : St} {r : Unit} (B : FX X E cX5_findHolders 7 none "RoseThrowModel" "findHolders" (sn a0) (ss a0) 6 142) (hS : ∀ σ, eSk E σ → SkM σ) : ∀ (n : Nat) (s : St) (x1 : Int32) (x2 : Int32) (x3 : Int32), F_X5_findHolders_9   n s x1 x2 x3 = some (r, s') → J X E (sn a0) (ss a0) 7 (QR X E a0 none s') s 9 [(0, vr (some 0)), (1, vi x1), (2, vi x2), (3, vi x3)] [] := by
  intro n
  induction n with
  | zero => intro s x1 x2 x3 h; exact absurd (show (none : Option (Unit × St)) = _ from h) (by simp)
  | succ n ih =>
    intro s x1 x2 x3 h
    rw [F_X5_findHolders_9] at h
    refine r_iload_n (j := 3) B dX5_findHolders_9 rfl rfl ?_
    refine r_bipush (v := 6) B dX5_findHolders_10 (by decide) ?_
    refine r_ic_ge (tgt := 28) B dX5_findHolders_12 (by decide) (fun cn1 => ?_) (fun cn1 => ?_)
    · have h := ot cn1 h
      refine r_iconst (v := 0) B dX5_findHolders_28 (by decide) ?_
      refine r_istore_n (L' := [(0, vr (some 0)), (1, vi x1), (2, vi x2), (3, vi (0 : Int32))]) B dX5_findHolders_29 rfl (by decide) rfl rfl rfl ?_
      exact w_X5_findHolders_30 B hS FU s x1 x2 (0 : Int32) h
    · have h := of cn1 h
      refine r_aload_n (j := 0) B dX5_findHolders_15 rfl rfl ?_
      refine g5 (k := 48) B (vr (some 25)) rfl (fun z => by rw [(hS _ z).1 0 (by decide)]; rfl) rfl q1565 rfl (fun z => by rw [(hS _ z).2 _ (List.mem_of_getElem? (i := 24) rfl)]; rfl) dX5_findHolders_16 ?_
      refine r_iload_n (j := 3) B dX5_findHolders_19 rfl rfl ?_
      refine r_iconst (v := 0) B dX5_findHolders_20 (by decide) ?_
      obtain ⟨hg2, h⟩ := gd_e h
      obtain ⟨s3, e4, h⟩ := nam_e h
      refine r_zast B e4 rfl (fun z => (hS _ z).1 25 (by decide)) hg2 dX5_findHolders_21 ?_
      refine r_iinc (j := 3) (v := (x3 + (1))) (L' := [(0, vr (some 0)), (1, vi x1), (2, vi x2), (3, vi (x3 + (1)))]) B dX5_findHolders_22 rfl rfl (by decide) rfl rfl rfl ?_
      refine r_goto (tgt := 9) B dX5_findHolders_25 (by decide) ?_
      exact ih s3 x1 x2 (x3 + (1)) h
set_option maxHeartbeats 4000000 in
noncomputable def F_X5_findHolders (s : St) (p0 : Int32) : Option (Unit × St) := nam (setI s 0 49 (0 : Int32)) fun s1 => F_X5_findHolders_9 FU s1 p0 (-1 : Int32) (0 : Int32)
set_option maxHeartbeats 4000000 in
theorem c_X5_findHolders {l : Launch} {E : EV} (hE : GE E) (hS : ∀ σ, eSk E σ → SkM σ) {s s' : St} {r : Unit} {p0 : Int32} (h : F_X5_findHolders  s p0 = some (r, s')) : CT l E yX5_findHolders cX5_findHolders 7 none 6 142 [vr (some 0), vi p0] s none s' := by
  refine CT.start hE (by decide) rfl [(0, vr (some 0)), (1, vi p0)] rfl (fun X hX B => ?_)
  skip
  have B : FX X E cX5_findHolders 7 none "RoseThrowModel" "findHolders" (sn s) (ss s) 6 142 := B
  unfold F_X5_findHolders at h
  refine r_iconst (v := -1) B dX5_findHolders_0 (by decide) ?_
  refine r_istore_n (L' := [(0, vr (some 0)), (1, vi p0), (2, vi (-1 : Int32))]) B dX5_findHolders_1 rfl (by decide) rfl rfl rfl ?_
  refine r_aload_n (j := 0) B dX5_findHolders_2 rfl rfl ?_
  refine r_iconst (v := 0) B dX5_findHolders_3 (by decide) ?_
  obtain ⟨s1, e2, h⟩ := nam_e h
  refine pI5 (k := 49) B e2 rfl (fun z => by rw [(hS _ z).1 0 (by decide)]; rfl) rfl q1566 rfl rfl (fun _ _ _ => rfl) rfl dX5_findHolders_4 ?_
  refine r_iconst (v := 0) B dX5_findHolders_7 (by decide) ?_
  refine r_istore_n (L' := [(0, vr (some 0)), (1, vi p0), (2, vi (-1 : Int32)), (3, vi (0 : Int32))]) B dX5_findHolders_8 rfl (by decide) rfl rfl rfl ?_
  exact w_X5_findHolders_9 B hS FU s1 p0 (-1 : Int32) (0 : Int32) h
set_option maxHeartbeats 4000000 in
theorem cw_X5_findHolders {X : CX} {fr lo : Nat} (h1 : Nat.ble (6 + 1) fr = true) (h2 : Nat.ble (26 + 142) lo = true) : CW X fr lo yX5_findHolders cX5_findHolders 7 none 6 142 1 := ⟨q2043, q136, ⟨by decide +kernel, by decide +kernel, by decide +kernel⟩, Nat.le_of_ble_eq_true h1, Nat.le_of_ble_eq_true h2⟩

set_option maxHeartbeats 4000000 in
noncomputable def F_X5_findParts_120 (k28 : St → Int32 → Option (Unit × St)) (k80 : St → Int32 → Int32 → Option (Unit × St)) (s : St) (x2 : Int32) (x3 : Int32) (z0 : Int32) (z1 : Int32) (z2 : Int32) : Option (Unit × St) := gd (inb z2 7) <| nam (setI s 26 z2.toNatClampNeg (z1 + z0)) fun s2 => k80 s2 x2 (x3 + (1))
set_option maxHeartbeats 4000000 in
theorem w_X5_findParts_120 {X : CX} {E : EV} {a0 s' : St} {r : Unit} (B : FX X E cX5_findParts 4 none "RoseThrowModel" "findParts" (sn a0) (ss a0) 7 168) (hS : ∀ σ, eSk E σ → SkM σ) (k28 : St → Int32 → Option (Unit × St)) (k80 : St → Int32 → Int32 → Option (Unit × St)) (hk28 : ∀ (s : St) (x2 : Int32), k28 s x2 = some (r, s') → J X E (sn a0) (ss a0) 4 (QR X E a0 none s') s 28 [(0, vr (some 0)), (2, vi x2)] []) (hk80 : ∀ (s : St) (x2 : Int32) (x3 : Int32), k80 s x2 x3 = some (r, s') → J X E (sn a0) (ss a0) 4 (QR X E a0 none s') s 80 [(0, vr (some 0)), (2, vi x2), (3, vi x3)] []) (s : St) (x2 : Int32) (x3 : Int32) (z0 : Int32) (z1 : Int32) (z2 : Int32) (h : F_X5_findParts_120  k28 k80 s x2 x3 z0 z1 z2 = some (r, s')) : J X E (sn a0) (ss a0) 4 (QR X E a0 none s') s 120 [(0, vr (some 0)), (2, vi x2), (3, vi x3)] [vi z0, vi z1, vi z2, vr (some 26)] := by
  unfold F_X5_findParts_120 at h
  refine r_iadd B dX5_findParts_120 ?_
  obtain ⟨hg1, h⟩ := gd_e h
  obtain ⟨s2, e3, h⟩ := nam_e h
  refine r_iast B e3 rfl (fun z => (hS _ z).1 26 (by decide)) hg1 dX5_findParts_121 ?_
  refine r_iinc (j := 2) (v := (x3 + (1))) (L' := [(0, vr (some 0)), (2, vi x2), (3, vi (x3 + (1)))]) B dX5_findParts_122 rfl rfl (by decide) rfl rfl rfl ?_
  refine r_goto (tgt := 80) B dX5_findParts_125 (by decide) ?_
  exact hk80 s2 x2 (x3 + (1)) h
set_option maxHeartbeats 4000000 in
noncomputable def F_X5_findParts_80 (k28 : St → Int32 → Option (Unit × St)) : Nat → St → Int32 → Int32 → Option (Unit × St)
  | 0 => fun _ _ _ => none
  | n + 1 => fun s x2 x3 => if (6 : Int32) ≤ x3 then (k28 s (x2 + (1))) else (gd (inb x3 7) <| gd (inb x3 6) <| if (si s 25 x3.toNatClampNeg) = 0 then (F_X5_findParts_120 k28 (F_X5_findParts_80 k28 n) s x2 x3 (0 : Int32) (si s 26 x3.toNatClampNeg) x3) else (gd (nzi (si s 0 49)) <| gd (inb x2 37) <| F_X5_findParts_120 k28 (F_X5_findParts_80 k28 n) s x2 x3 (((60 : Int32) / (si s 0 49)) * (si s 22 x2.toNatClampNeg)) (si s 26 x3.toNatClampNeg) x3))
set_option maxHeartbeats 4000000 in
theorem w_X5_findParts_80 {X : CX} {E : EV} {a0 s' : St} {r : Unit} (B : FX X E cX5_findParts 4 none "RoseThrowModel" "findParts" (sn a0) (ss a0) 7 168) (hS : ∀ σ, eSk E σ → SkM σ) (k28 : St → Int32 → Option (Unit × St)) (hk28 : ∀ (s : St) (x2 : Int32), k28 s x2 = some (r, s') → J X E (sn a0) (ss a0) 4 (QR X E a0 none s') s 28 [(0, vr (some 0)), (2, vi x2)] []) : ∀ (n : Nat) (s : St) (x2 : Int32) (x3 : Int32), F_X5_findParts_80  k28 n s x2 x3 = some (r, s') → J X E (sn a0) (ss a0) 4 (QR X E a0 none s') s 80 [(0, vr (some 0)), (2, vi x2), (3, vi x3)] [] := by
  intro n
  induction n with
  | zero => intro s x2 x3 h; exact absurd (show (none : Option (Unit × St)) = _ from h) (by simp)
  | succ n ih =>
    intro s x2 x3 h
    rw [F_X5_findParts_80] at h
    refine r_iload_n (j := 2) B dX5_findParts_80 rfl rfl ?_
    refine r_bipush (v := 6) B dX5_findParts_81 (by decide) ?_
    refine r_ic_ge (tgt := 128) B dX5_findParts_83 (by decide) (fun cn1 => ?_) (fun cn1 => ?_)
    · have h := ot cn1 h
      refine r_iinc (j := 1) (v := (x2 + (1))) (L' := [(0, vr (some 0)), (2, vi (x2 + (1))), (3, vi x3)]) B dX5_findParts_128 rfl rfl (by decide) rfl rfl rfl ?_
      refine r_goto (tgt := 28) B dX5_findParts_131 (by decide) ?_
      refine r_pick [0, 1] (L' := [(0, vr (some 0)), (2, vi (x2 + (1)))]) rfl ?_
      exact hk28 s (x2 + (1)) h
    · have h := of cn1 h
      refine r_aload_n (j := 0) B dX5_findParts_86 rfl rfl ?_
      refine g5 (k := 51) B (vr (some 26)) rfl (fun z => by rw [(hS _ z).1 0 (by decide)]; rfl) rfl q1568 rfl (fun z => by rw [(hS _ z).2 _ (List.mem_of_getElem? (i := 25) rfl)]; rfl) dX5_findParts_87 ?_
      refine r_iload_n (j := 2) B dX5_findParts_90 rfl rfl ?_
      refine r_dup2 B dX5_findParts_91 rfl rfl ?_
      obtain ⟨hg2, h⟩ := gd_e h
      refine r_iald B rfl (fun z => (hS _ z).1 26 (by decide)) hg2 dX5_findParts_92 ?_
      refine r_aload_n (j := 0) B dX5_findParts_93 rfl rfl ?_
      refine g5 (k := 48) B (vr (some 25)) rfl (fun z => by rw [(hS _ z).1 0 (by decide)]; rfl) rfl q1565 rfl (fun z => by rw [(hS _ z).2 _ (List.mem_of_getElem? (i := 24) rfl)]; rfl) dX5_findParts_94 ?_
      refine r_iload_n (j := 2) B dX5_findParts_97 rfl rfl ?_
      obtain ⟨hg3, h⟩ := gd_e h
      refine r_zald B rfl (fun z => (hS _ z).1 25 (by decide)) hg3 dX5_findParts_98 ?_
      refine r_if_eq (tgt := 119) B dX5_findParts_99 (by decide) (fun cn4 => ?_) (fun cn4 => ?_)
      · have h := ot cn4 h
        refine r_iconst (v := 0) B dX5_findParts_119 (by decide) ?_
        exact w_X5_findParts_120 B hS k28 (F_X5_findParts_80 k28 n) hk28 ih s x2 x3 (0 : Int32) (si s 26 x3.toNatClampNeg) x3 h
      · have h := of cn4 h
        refine r_bipush (v := 60) B dX5_findParts_102 (by decide) ?_
        refine r_aload_n (j := 0) B dX5_findParts_104 rfl rfl ?_
        refine g5 (k := 49) B (vi (si s 0 49)) rfl (fun z => by rw [(hS _ z).1 0 (by decide)]; rfl) rfl q1566 rfl (fun _ => rfl) dX5_findParts_105 ?_
        obtain ⟨hg5, h⟩ := gd_e h
        refine r_idiv B dX5_findParts_108 (nzi_e hg5) ?_
        refine r_aload_n (j := 0) B dX5_findParts_109 rfl rfl ?_
        refine g5 (k := 42) B (vr (some 22)) rfl (fun z => by rw [(hS _ z).1 0 (by decide)]; rfl) rfl q1559 rfl (fun z => by rw [(hS _ z).2 _ (List.mem_of_getElem? (i := 21) rfl)]; rfl) dX5_findParts_110 ?_
        refine r_iload_n (j := 1) B dX5_findParts_113 rfl rfl ?_
        obtain ⟨hg6, h⟩ := gd_e h
        refine r_iald B rfl (fun z => (hS _ z).1 22 (by decide)) hg6 dX5_findParts_114 ?_
        refine r_imul B dX5_findParts_115 ?_
        refine r_goto (tgt := 120) B dX5_findParts_116 (by decide) ?_
        exact w_X5_findParts_120 B hS k28 (F_X5_findParts_80 k28 n) hk28 ih s x2 x3 (((60 : Int32) / (si s 0 49)) * (si s 22 x2.toNatClampNeg)) (si s 26 x3.toNatClampNeg) x3 h
set_option maxHeartbeats 4000000 in
noncomputable def F_X5_findParts_76 (k28 : St → Int32 → Option (Unit × St)) (s : St) (x2 : Int32) (z0 : Int32) (z1 : Int32) (z2 : Int32) : Option (Unit × St) := gd (inb z2 7) <| nam (setI s 26 z2.toNatClampNeg (z1 + z0)) fun s2 => F_X5_findParts_80 k28 FU s2 x2 (0 : Int32)
set_option maxHeartbeats 4000000 in
theorem w_X5_findParts_76 {X : CX} {E : EV} {a0 s' : St} {r : Unit} (B : FX X E cX5_findParts 4 none "RoseThrowModel" "findParts" (sn a0) (ss a0) 7 168) (hS : ∀ σ, eSk E σ → SkM σ) (k28 : St → Int32 → Option (Unit × St)) (hk28 : ∀ (s : St) (x2 : Int32), k28 s x2 = some (r, s') → J X E (sn a0) (ss a0) 4 (QR X E a0 none s') s 28 [(0, vr (some 0)), (2, vi x2)] []) (s : St) (x2 : Int32) (z0 : Int32) (z1 : Int32) (z2 : Int32) (h : F_X5_findParts_76  k28 s x2 z0 z1 z2 = some (r, s')) : J X E (sn a0) (ss a0) 4 (QR X E a0 none s') s 76 [(0, vr (some 0)), (2, vi x2)] [vi z0, vi z1, vi z2, vr (some 26)] := by
  unfold F_X5_findParts_76 at h
  refine r_iadd B dX5_findParts_76 ?_
  obtain ⟨hg1, h⟩ := gd_e h
  obtain ⟨s2, e3, h⟩ := nam_e h
  refine r_iast B e3 rfl (fun z => (hS _ z).1 26 (by decide)) hg1 dX5_findParts_77 ?_
  refine r_iconst (v := 0) B dX5_findParts_78 (by decide) ?_
  refine r_istore_n (L' := [(0, vr (some 0)), (2, vi x2), (3, vi (0 : Int32))]) B dX5_findParts_79 rfl (by decide) rfl rfl rfl ?_
  exact w_X5_findParts_80 B hS k28 hk28 FU s2 x2 (0 : Int32) h
set_option maxHeartbeats 4000000 in
noncomputable def F_X5_findParts_28 : Nat → St → Int32 → Option (Unit × St)
  | 0 => fun _ _ => none
  | n + 1 => fun s x2 => if (37 : Int32) ≤ x2 then (some ((), s)) else (gd (inb x2 37) <| if (si s 22 x2.toNatClampNeg) ≤ 0 then (F_X5_findParts_28  n s (x2 + (1))) else (bnd (F_X5_findHolders s x2) fun _ s5 => gd (inb (6 : Int32) 7) <| if (si s5 0 49) = 0 then (gd (inb x2 37) <| F_X5_findParts_76 (F_X5_findParts_28  n) s5 x2 ((60 : Int32) * (si s5 22 x2.toNatClampNeg)) (si s5 26 (6 : Int32).toNatClampNeg) (6 : Int32)) else (F_X5_findParts_76 (F_X5_findParts_28  n) s5 x2 (0 : Int32) (si s5 26 (6 : Int32).toNatClampNeg) (6 : Int32))))
set_option maxHeartbeats 4000000 in
theorem w_X5_findParts_28 {X : CX} {E : EV} {a0 s' : St} {r : Unit} (B : FX X E cX5_findParts 4 none "RoseThrowModel" "findParts" (sn a0) (ss a0) 7 168) (hS : ∀ σ, eSk E σ → SkM σ) : ∀ (n : Nat) (s : St) (x2 : Int32), F_X5_findParts_28   n s x2 = some (r, s') → J X E (sn a0) (ss a0) 4 (QR X E a0 none s') s 28 [(0, vr (some 0)), (2, vi x2)] [] := by
  intro n
  induction n with
  | zero => intro s x2 h; exact absurd (show (none : Option (Unit × St)) = _ from h) (by simp)
  | succ n ih =>
    intro s x2 h
    rw [F_X5_findParts_28] at h
    refine r_iload_n (j := 1) B dX5_findParts_28 rfl rfl ?_
    refine r_bipush (v := 37) B dX5_findParts_29 (by decide) ?_
    refine r_ic_ge (tgt := 134) B dX5_findParts_31 (by decide) (fun cn1 => ?_) (fun cn1 => ?_)
    · have h := ot cn1 h
      exact r_vret B dX5_findParts_134 h
    · have h := of cn1 h
      refine r_aload_n (j := 0) B dX5_findParts_34 rfl rfl ?_
      refine g5 (k := 42) B (vr (some 22)) rfl (fun z => by rw [(hS _ z).1 0 (by decide)]; rfl) rfl q1559 rfl (fun z => by rw [(hS _ z).2 _ (List.mem_of_getElem? (i := 21) rfl)]; rfl) dX5_findParts_35 ?_
      refine r_iload_n (j := 1) B dX5_findParts_38 rfl rfl ?_
      obtain ⟨hg2, h⟩ := gd_e h
      refine r_iald B rfl (fun z => (hS _ z).1 22 (by decide)) hg2 dX5_findParts_39 ?_
      refine r_if_le (tgt := 128) B dX5_findParts_40 (by decide) (fun cn3 => ?_) (fun cn3 => ?_)
      · have h := ot cn3 h
        refine r_iinc (j := 1) (v := (x2 + (1))) (L' := [(0, vr (some 0)), (2, vi (x2 + (1)))]) B dX5_findParts_128 rfl rfl (by decide) rfl rfl rfl ?_
        refine r_goto (tgt := 28) B dX5_findParts_131 (by decide) ?_
        exact ih s (x2 + (1)) h
      · have h := of cn3 h
        refine r_aload_n (j := 0) B dX5_findParts_43 rfl rfl ?_
        refine r_iload_n (j := 1) B dX5_findParts_44 rfl rfl ?_
        obtain ⟨r4, s5, hc6, h⟩ := bnd_e h
        refine r_callV0 (As := [vi x2]) (rest := []) B rfl rfl EX.same (c_X5_findHolders B.ge hS hc6) (cw_X5_findHolders rfl rfl) (fun z => RV.of 5 ((fun z => by rw [(hS _ z).1 0 (by decide)]; rfl) z) rfl rfl qs99) q2040 q2042 rfl dX5_findParts_45 ?_
        refine r_aload_n (j := 0) B dX5_findParts_48 rfl rfl ?_
        refine g5 (k := 51) B (vr (some 26)) rfl (fun z => by rw [(hS _ z).1 0 (by decide)]; rfl) rfl q1568 rfl (fun z => by rw [(hS _ z).2 _ (List.mem_of_getElem? (i := 25) rfl)]; rfl) dX5_findParts_49 ?_
        refine r_bipush (v := 6) B dX5_findParts_52 (by decide) ?_
        refine r_dup2 B dX5_findParts_54 rfl rfl ?_
        obtain ⟨hg7, h⟩ := gd_e h
        refine r_iald B rfl (fun z => (hS _ z).1 26 (by decide)) hg7 dX5_findParts_55 ?_
        refine r_aload_n (j := 0) B dX5_findParts_56 rfl rfl ?_
        refine g5 (k := 49) B (vi (si s5 0 49)) rfl (fun z => by rw [(hS _ z).1 0 (by decide)]; rfl) rfl q1566 rfl (fun _ => rfl) dX5_findParts_57 ?_
        refine r_if_ne (tgt := 75) B dX5_findParts_60 (by decide) (fun cn8 => ?_) (fun cn8 => ?_)
        · have h := of cn8 h
          refine r_iconst (v := 0) B dX5_findParts_75 (by decide) ?_
          exact w_X5_findParts_76 B hS (F_X5_findParts_28  n) ih s5 x2 (0 : Int32) (si s5 26 (6 : Int32).toNatClampNeg) (6 : Int32) h
        · have h := ot cn8 h
          refine r_bipush (v := 60) B dX5_findParts_63 (by decide) ?_
          refine r_aload_n (j := 0) B dX5_findParts_65 rfl rfl ?_
          refine g5 (k := 42) B (vr (some 22)) rfl (fun z => by rw [(hS _ z).1 0 (by decide)]; rfl) rfl q1559 rfl (fun z => by rw [(hS _ z).2 _ (List.mem_of_getElem? (i := 21) rfl)]; rfl) dX5_findParts_66 ?_
          refine r_iload_n (j := 1) B dX5_findParts_69 rfl rfl ?_
          obtain ⟨hg9, h⟩ := gd_e h
          refine r_iald B rfl (fun z => (hS _ z).1 22 (by decide)) hg9 dX5_findParts_70 ?_
          refine r_imul B dX5_findParts_71 ?_
          refine r_goto (tgt := 76) B dX5_findParts_72 (by decide) ?_
          exact w_X5_findParts_76 B hS (F_X5_findParts_28  n) ih s5 x2 ((60 : Int32) * (si s5 22 x2.toNatClampNeg)) (si s5 26 (6 : Int32).toNatClampNeg) (6 : Int32) h
set_option maxHeartbeats 4000000 in
noncomputable def F_X5_findParts_7 : Nat → St → Int32 → Option (Unit × St)
  | 0 => fun _ _ => none
  | n + 1 => fun s x2 => if (7 : Int32) ≤ x2 then (F_X5_findParts_28 FU s (0 : Int32)) else (gd (inb x2 7) <| nam (setI s 26 x2.toNatClampNeg (0 : Int32)) fun s3 => F_X5_findParts_7  n s3 (x2 + (1)))
set_option maxHeartbeats 4000000 in
theorem w_X5_findParts_7 {X : CX} {E : EV} {a0 s' : St} {r : Unit} (B : FX X E cX5_findParts 4 none "RoseThrowModel" "findParts" (sn a0) (ss a0) 7 168) (hS : ∀ σ, eSk E σ → SkM σ) : ∀ (n : Nat) (s : St) (x2 : Int32), F_X5_findParts_7   n s x2 = some (r, s') → J X E (sn a0) (ss a0) 4 (QR X E a0 none s') s 7 [(0, vr (some 0)), (2, vi x2)] [] := by
  intro n
  induction n with
  | zero => intro s x2 h; exact absurd (show (none : Option (Unit × St)) = _ from h) (by simp)
  | succ n ih =>
    intro s x2 h
    rw [F_X5_findParts_7] at h
    refine r_iload_n (j := 1) B dX5_findParts_7 rfl rfl ?_
    refine r_bipush (v := 7) B dX5_findParts_8 (by decide) ?_
    refine r_ic_ge (tgt := 26) B dX5_findParts_10 (by decide) (fun cn1 => ?_) (fun cn1 => ?_)
    · have h := ot cn1 h
      refine r_iconst (v := 0) B dX5_findParts_26 (by decide) ?_
      refine r_istore_n (L' := [(0, vr (some 0)), (2, vi (0 : Int32))]) B dX5_findParts_27 rfl (by decide) rfl rfl rfl ?_
      exact w_X5_findParts_28 B hS FU s (0 : Int32) h
    · have h := of cn1 h
      refine r_aload_n (j := 0) B dX5_findParts_13 rfl rfl ?_
      refine g5 (k := 51) B (vr (some 26)) rfl (fun z => by rw [(hS _ z).1 0 (by decide)]; rfl) rfl q1568 rfl (fun z => by rw [(hS _ z).2 _ (List.mem_of_getElem? (i := 25) rfl)]; rfl) dX5_findParts_14 ?_
      refine r_iload_n (j := 1) B dX5_findParts_17 rfl rfl ?_
      refine r_iconst (v := 0) B dX5_findParts_18 (by decide) ?_
      obtain ⟨hg2, h⟩ := gd_e h
      obtain ⟨s3, e4, h⟩ := nam_e h
      refine r_iast B e4 rfl (fun z => (hS _ z).1 26 (by decide)) hg2 dX5_findParts_19 ?_
      refine r_iinc (j := 1) (v := (x2 + (1))) (L' := [(0, vr (some 0)), (2, vi (x2 + (1)))]) B dX5_findParts_20 rfl rfl (by decide) rfl rfl rfl ?_
      refine r_goto (tgt := 7) B dX5_findParts_23 (by decide) ?_
      exact ih s3 (x2 + (1)) h
set_option maxHeartbeats 4000000 in
noncomputable def F_X5_findParts (s : St) (p0 : Int32) : Option (Unit × St) := nam (setI s 0 50 p0) fun s1 => F_X5_findParts_7 FU s1 (0 : Int32)
set_option maxHeartbeats 4000000 in
theorem c_X5_findParts {l : Launch} {E : EV} (hE : GE E) (hS : ∀ σ, eSk E σ → SkM σ) {s s' : St} {r : Unit} {p0 : Int32} (h : F_X5_findParts  s p0 = some (r, s')) : CT l E yX5_findParts cX5_findParts 4 none 7 168 [vr (some 0), vi p0] s none s' := by
  refine CT.start hE (by decide) rfl [(0, vr (some 0)), (1, vi p0)] rfl (fun X hX B => ?_)
  skip
  have B : FX X E cX5_findParts 4 none "RoseThrowModel" "findParts" (sn s) (ss s) 7 168 := B
  unfold F_X5_findParts at h
  refine r_aload_n (j := 0) B dX5_findParts_0 rfl rfl ?_
  refine r_iload_n (j := 1) B dX5_findParts_1 rfl rfl ?_
  obtain ⟨s1, e2, h⟩ := nam_e h
  refine pI5 (k := 50) B e2 rfl (fun z => by rw [(hS _ z).1 0 (by decide)]; rfl) rfl q1567 rfl rfl (fun _ _ _ => rfl) rfl dX5_findParts_2 ?_
  refine r_iconst (v := 0) B dX5_findParts_5 (by decide) ?_
  refine r_istore_n (L' := [(0, vr (some 0)), (1, vi p0), (2, vi (0 : Int32))]) B dX5_findParts_6 rfl (by decide) rfl rfl rfl ?_
  refine r_pick [0, 2] (L' := [(0, vr (some 0)), (2, vi (0 : Int32))]) rfl ?_
  exact w_X5_findParts_7 B hS FU s1 (0 : Int32) h
set_option maxHeartbeats 4000000 in
theorem cw_X5_findParts {X : CX} {fr lo : Nat} (h1 : Nat.ble (7 + 1) fr = true) (h2 : Nat.ble (23 + 168) lo = true) : CW X fr lo yX5_findParts cX5_findParts 4 none 7 168 1 := ⟨q2039, q136, ⟨by decide +kernel, by decide +kernel, by decide +kernel⟩, Nat.le_of_ble_eq_true h1, Nat.le_of_ble_eq_true h2⟩

set_option maxHeartbeats 4000000 in
noncomputable def F_X5_findAll (s : St)  : Option (Unit × St) := gd (inb (0 : Int32) 5460) <| bnd (F_X5_findParts s (si s 2 (0 : Int32).toNatClampNeg)) fun _ s3 => some ((), s3)
set_option maxHeartbeats 4000000 in
theorem c_X5_findAll {l : Launch} {E : EV} (hE : GE E) (hS : ∀ σ, eSk E σ → SkM σ) {s s' : St} {r : Unit}  (h : F_X5_findAll  s  = some (r, s')) : CT l E yX5_findAll cX5_findAll 1 none 8 191 [vr (some 0)] s none s' := by
  refine CT.start hE (by decide) rfl [(0, vr (some 0))] rfl (fun X hX B => ?_)
  skip
  have B : FX X E cX5_findAll 1 none "RoseThrowModel" "findAll" (sn s) (ss s) 8 191 := B
  unfold F_X5_findAll at h
  refine r_aload_n (j := 0) B dX5_findAll_0 rfl rfl ?_
  refine r_aload_n (j := 0) B dX5_findAll_1 rfl rfl ?_
  refine g5 (k := 3) B (vr (some 2)) rfl (fun z => by rw [(hS _ z).1 0 (by decide)]; rfl) rfl q1520 rfl (fun z => by rw [(hS _ z).2 _ (List.mem_of_getElem? (i := 1) rfl)]; rfl) dX5_findAll_2 ?_
  refine r_iconst (v := 0) B dX5_findAll_5 (by decide) ?_
  obtain ⟨hg1, h⟩ := gd_e h
  refine r_iald B rfl (fun z => (hS _ z).1 2 (by decide)) hg1 dX5_findAll_6 ?_
  obtain ⟨r2, s3, hc4, h⟩ := bnd_e h
  refine r_callV0 (As := [vi (si s 2 (0 : Int32).toNatClampNeg)]) (rest := []) B rfl rfl EX.same (c_X5_findParts B.ge hS hc4) (cw_X5_findParts rfl rfl) (fun z => RV.of 5 ((fun z => by rw [(hS _ z).1 0 (by decide)]; rfl) z) rfl rfl qs98) q2036 q2038 rfl dX5_findAll_7 ?_
  exact r_vret B dX5_findAll_10 h
set_option maxHeartbeats 4000000 in
theorem cw_X5_findAll {X : CX} {fr lo : Nat} (h1 : Nat.ble (8 + 1) fr = true) (h2 : Nat.ble (20 + 191) lo = true) : CW X fr lo yX5_findAll cX5_findAll 1 none 8 191 0 := ⟨q2035, q136, ⟨by decide +kernel, by decide +kernel, by decide +kernel⟩, Nat.le_of_ble_eq_true h1, Nat.le_of_ble_eq_true h2⟩

set_option maxHeartbeats 4000000 in
noncomputable def F_X5_has_56 (s : St) (x2 : Int32) (z0 : Int32) : Option (Int64 × St) := gd (inb z0 7) <| bnd (F_X5_shorten s (((si s 26 z0.toNatClampNeg)).toInt64) ((((60 : Int32) * (si s 0 45))).toInt64)) fun _ s3 => if x2 = 0 then (some ((sl s3 0 46), s3)) else (some ((sl s3 0 47), s3))
set_option maxHeartbeats 4000000 in
theorem w_X5_has_56 {X : CX} {E : EV} {a0 s' : St} {r : Int64} (B : FX X E cX5_has 3 (some .long) "RoseThrowModel" "has" (sn a0) (ss a0) 9 211) (hS : ∀ σ, eSk E σ → SkM σ) (s : St) (x2 : Int32) (z0 : Int32) (h : F_X5_has_56   s x2 z0 = some (r, s')) : J X E (sn a0) (ss a0) 3 (QR X E a0 (some (vl r)) s') s 56 [(0, vr (some 0)), (2, vi x2)] [vi z0, vr (some 26), vr (some 0)] := by
  unfold F_X5_has_56 at h
  obtain ⟨hg1, h⟩ := gd_e h
  refine r_iald B rfl (fun z => (hS _ z).1 26 (by decide)) hg1 dX5_has_56 ?_
  refine r_i2l B dX5_has_57 ?_
  refine r_bipush (v := 60) B dX5_has_58 (by decide) ?_
  refine r_aload_n (j := 0) B dX5_has_60 rfl rfl ?_
  refine g5 (k := 45) B (vi (si s 0 45)) rfl (fun z => by rw [(hS _ z).1 0 (by decide)]; rfl) rfl q1562 rfl (fun _ => rfl) dX5_has_61 ?_
  refine r_imul B dX5_has_64 ?_
  refine r_i2l B dX5_has_65 ?_
  obtain ⟨r2, s3, hc4, h⟩ := bnd_e h
  refine r_callV0 (As := [vl (((si s 26 z0.toNatClampNeg)).toInt64), vl ((((60 : Int32) * (si s 0 45))).toInt64)]) (rest := []) B rfl rfl EX.same (c_X5_shorten B.ge hS hc4) (cw_X5_shorten rfl rfl) (fun z => RV.of 5 ((fun z => by rw [(hS _ z).1 0 (by decide)]; rfl) z) rfl rfl qs96) q2024 q2026 rfl dX5_has_66 ?_
  refine r_iload_n (j := 1) B dX5_has_69 rfl rfl ?_
  refine r_if_ne (tgt := 80) B dX5_has_70 (by decide) (fun cn5 => ?_) (fun cn5 => ?_)
  · have h := of cn5 h
    refine r_aload_n (j := 0) B dX5_has_80 rfl rfl ?_
    refine g5 (k := 47) B (vl (sl s3 0 47)) rfl (fun z => by rw [(hS _ z).1 0 (by decide)]; rfl) rfl q1564 rfl (fun _ => rfl) dX5_has_81 ?_
    exact r_lret B dX5_has_84 h
  · have h := ot cn5 h
    refine r_aload_n (j := 0) B dX5_has_73 rfl rfl ?_
    refine g5 (k := 46) B (vl (sl s3 0 46)) rfl (fun z => by rw [(hS _ z).1 0 (by decide)]; rfl) rfl q1563 rfl (fun _ => rfl) dX5_has_74 ?_
    refine r_goto (tgt := 84) B dX5_has_77 (by decide) ?_
    exact r_lret B dX5_has_84 h
set_option maxHeartbeats 4000000 in
noncomputable def F_X5_has_18 (s : St) (x1 : Int32) (x2 : Int32) : Option (Int64 × St) := bnd (F_X5_in s ((x2).toInt64) (0 : Int64) (1 : Int64)) fun r1 s2 => if r1 = 0 then (some ((-1 : Int64), s2)) else (bnd (F_X5_aimNow s2) fun _ s6 => bnd (F_X5_findAll s6) fun _ s9 => if x1 = (-1 : Int32) then (F_X5_has_56 s9 x2 (6 : Int32)) else (F_X5_has_56 s9 x2 x1))
set_option maxHeartbeats 4000000 in
theorem w_X5_has_18 {X : CX} {E : EV} {a0 s' : St} {r : Int64} (B : FX X E cX5_has 3 (some .long) "RoseThrowModel" "has" (sn a0) (ss a0) 9 211) (hS : ∀ σ, eSk E σ → SkM σ) (s : St) (x1 : Int32) (x2 : Int32) (h : F_X5_has_18   s x1 x2 = some (r, s')) : J X E (sn a0) (ss a0) 3 (QR X E a0 (some (vl r)) s') s 18 [(0, vr (some 0)), (1, vi x1), (2, vi x2)] [] := by
  unfold F_X5_has_18 at h
  refine r_iload_n (j := 2) B dX5_has_18 rfl rfl ?_
  refine r_i2l B dX5_has_19 ?_
  refine r_lconst (v := 0) B dX5_has_20 (by decide) ?_
  refine r_lconst (v := 1) B dX5_has_21 (by decide) ?_
  obtain ⟨r1, s2, hc3, h⟩ := bnd_e h
  refine r_callSv (As := [vl ((x2).toInt64), vl (0 : Int64), vl (1 : Int64)]) (rest := []) B rfl EX.same (c_X5_in B.ge hS hc3) (cw_X5_in rfl rfl) q1740 q1741 rfl dX5_has_22 ?_
  refine r_if_ne (tgt := 32) B dX5_has_25 (by decide) (fun cn4 => ?_) (fun cn4 => ?_)
  · have h := of cn4 h
    refine r_aload_n (j := 0) B dX5_has_32 rfl rfl ?_
    obtain ⟨r5, s6, hc7, h⟩ := bnd_e h
    refine r_callV0 (As := []) (rest := []) B rfl rfl EX.same (c_X5_aimNow B.ge hS hc7) (cw_X5_aimNow rfl rfl) (fun z => RV.of 5 ((fun z => by rw [(hS _ z).1 0 (by decide)]; rfl) z) rfl rfl qs91) q2004 q2006 rfl dX5_has_33 ?_
    refine r_aload_n (j := 0) B dX5_has_36 rfl rfl ?_
    obtain ⟨r8, s9, hc10, h⟩ := bnd_e h
    refine r_callV0 (As := []) (rest := []) B rfl rfl EX.same (c_X5_findAll B.ge hS hc10) (cw_X5_findAll rfl rfl) (fun z => RV.of 5 ((fun z => by rw [(hS _ z).1 0 (by decide)]; rfl) z) rfl rfl qs97) q2032 q2034 rfl dX5_has_37 ?_
    refine r_aload_n (j := 0) B dX5_has_40 rfl rfl ?_
    refine r_aload_n (j := 0) B dX5_has_41 rfl rfl ?_
    refine g5 (k := 51) B (vr (some 26)) rfl (fun z => by rw [(hS _ z).1 0 (by decide)]; rfl) rfl q1568 rfl (fun z => by rw [(hS _ z).2 _ (List.mem_of_getElem? (i := 25) rfl)]; rfl) dX5_has_42 ?_
    refine r_iload_n (j := 1) B dX5_has_45 rfl rfl ?_
    refine r_iconst (v := -1) B dX5_has_46 (by decide) ?_
    refine r_ic_ne (tgt := 55) B dX5_has_47 (by decide) (fun cn11 => ?_) (fun cn11 => ?_)
    · have h := of cn11 h
      refine r_iload_n (j := 1) B dX5_has_55 rfl rfl ?_
      refine r_pick [0, 2] (L' := [(0, vr (some 0)), (2, vi x2)]) rfl ?_
      exact w_X5_has_56 B hS s9 x2 x1 h
    · have h := ot cn11 h
      refine r_bipush (v := 6) B dX5_has_50 (by decide) ?_
      refine r_goto (tgt := 56) B dX5_has_52 (by decide) ?_
      refine r_pick [0, 2] (L' := [(0, vr (some 0)), (2, vi x2)]) rfl ?_
      exact w_X5_has_56 B hS s9 x2 (6 : Int32) h
  · have h := ot cn4 h
    refine r_ldc2 B dX5_has_28 q1782 ?_
    exact r_lret B dX5_has_31 h
set_option maxHeartbeats 4000000 in
noncomputable def F_X5_has (s : St) (p0 : Int32) (p1 : Int32) : Option (Int64 × St) := nam (setI s 0 0 (0 : Int32)) fun s1 => if p0 = (-1 : Int32) then (F_X5_has_18 s1 p0 p1) else (bnd (F_X5_isCatcher s1 p0) fun r4 s5 => if r4 = 0 then (some ((-1 : Int64), s5)) else (F_X5_has_18 s5 p0 p1))
set_option maxHeartbeats 4000000 in
theorem c_X5_has {l : Launch} {E : EV} (hE : GE E) (hS : ∀ σ, eSk E σ → SkM σ) {s s' : St} {r : Int64} {p0 : Int32} {p1 : Int32} (h : F_X5_has  s p0 p1 = some (r, s')) : CT l E yX5_has cX5_has 3 (some .long) 9 211 [vr (some 0), vi p0, vi p1] s (some (vl r)) s' := by
  refine CT.start hE (by decide) rfl [(0, vr (some 0)), (1, vi p0), (2, vi p1)] rfl (fun X hX B => ?_)
  skip
  have B : FX X E cX5_has 3 (some .long) "RoseThrowModel" "has" (sn s) (ss s) 9 211 := B
  unfold F_X5_has at h
  refine r_aload_n (j := 0) B dX5_has_0 rfl rfl ?_
  refine r_iconst (v := 0) B dX5_has_1 (by decide) ?_
  obtain ⟨s1, e2, h⟩ := nam_e h
  refine pI5 (k := 0) B e2 rfl (fun z => by rw [(hS _ z).1 0 (by decide)]; rfl) rfl q1517 rfl rfl (fun _ _ _ => rfl) rfl dX5_has_2 ?_
  refine r_iload_n (j := 1) B dX5_has_5 rfl rfl ?_
  refine r_iconst (v := -1) B dX5_has_6 (by decide) ?_
  refine r_ic_eq (tgt := 18) B dX5_has_7 (by decide) (fun cn3 => ?_) (fun cn3 => ?_)
  · have h := ot cn3 h
    exact w_X5_has_18 B hS s1 p0 p1 h
  · have h := of cn3 h
    refine r_aload_n (j := 0) B dX5_has_10 rfl rfl ?_
    refine r_iload_n (j := 1) B dX5_has_11 rfl rfl ?_
    obtain ⟨r4, s5, hc6, h⟩ := bnd_e h
    refine r_callVv (As := [vi p0]) (rest := []) B rfl rfl EX.same (c_X5_isCatcher B.ge hS hc6) (cw_X5_isCatcher rfl rfl) (fun z => RV.of 5 ((fun z => by rw [(hS _ z).1 0 (by decide)]; rfl) z) rfl rfl qs60) q1799 q1801 rfl dX5_has_12 ?_
    refine r_if_eq (tgt := 28) B dX5_has_15 (by decide) (fun cn7 => ?_) (fun cn7 => ?_)
    · have h := ot cn7 h
      refine r_ldc2 B dX5_has_28 q1782 ?_
      exact r_lret B dX5_has_31 h
    · have h := of cn7 h
      exact w_X5_has_18 B hS s5 p0 p1 h
set_option maxHeartbeats 4000000 in
theorem cw_X5_has {X : CX} {fr lo : Nat} (h1 : Nat.ble (9 + 1) fr = true) (h2 : Nat.ble (22 + 211) lo = true) : CW X fr lo yX5_has cX5_has 3 (some .long) 9 211 2 := ⟨q2031, q136, ⟨by decide +kernel, by decide +kernel, by decide +kernel⟩, Nat.le_of_ble_eq_true h1, Nat.le_of_ble_eq_true h2⟩

set_option maxHeartbeats 4000000 in
noncomputable def F_X5_canStand_18 (s : St) (x1 : Int32) (x2 : Int32) : Option (Int32 × St) := bnd (F_X5_isBarred s x1 x2) fun r1 s2 => if r1 = 0 then (some ((1 : Int32), s2)) else (some ((0 : Int32), s2))
set_option maxHeartbeats 4000000 in
theorem w_X5_canStand_18 {X : CX} {E : EV} {a0 s' : St} {r : Int32} (B : FX X E cX5_canStand 3 (some .boolean) "RoseThrowModel" "canStand" (sn a0) (ss a0) 7 166) (hS : ∀ σ, eSk E σ → SkM σ) (s : St) (x1 : Int32) (x2 : Int32) (h : F_X5_canStand_18   s x1 x2 = some (r, s')) : J X E (sn a0) (ss a0) 3 (QR X E a0 (some (vi r)) s') s 18 [(0, vr (some 0)), (1, vi x1), (2, vi x2)] [] := by
  unfold F_X5_canStand_18 at h
  refine r_aload_n (j := 0) B dX5_canStand_18 rfl rfl ?_
  refine r_iload_n (j := 1) B dX5_canStand_19 rfl rfl ?_
  refine r_iload_n (j := 2) B dX5_canStand_20 rfl rfl ?_
  obtain ⟨r1, s2, hc3, h⟩ := bnd_e h
  refine r_callVv (As := [vi x1, vi x2]) (rest := []) B rfl rfl EX.same (c_X5_isBarred B.ge hS hc3) (cw_X5_isBarred rfl rfl) (fun z => RV.of 5 ((fun z => by rw [(hS _ z).1 0 (by decide)]; rfl) z) rfl rfl qs90) q1996 q1998 rfl dX5_canStand_21 ?_
  refine r_if_ne (tgt := 31) B dX5_canStand_24 (by decide) (fun cn4 => ?_) (fun cn4 => ?_)
  · have h := of cn4 h
    refine r_iconst (v := 0) B dX5_canStand_31 (by decide) ?_
    exact r_zret B dX5_canStand_32 (by decide) h
  · have h := ot cn4 h
    refine r_iconst (v := 1) B dX5_canStand_27 (by decide) ?_
    refine r_goto (tgt := 32) B dX5_canStand_28 (by decide) ?_
    exact r_zret B dX5_canStand_32 (by decide) h
set_option maxHeartbeats 4000000 in
noncomputable def F_X5_canStand (s : St) (p0 : Int32) (p1 : Int32) : Option (Int32 × St) := bnd (F_X5_ofCatcher s p0 (3 : Int32)) fun r1 s2 => if p1 = r1 then (F_X5_canStand_18 s2 p0 p1) else (bnd (F_X5_isFree s2 p1) fun r5 s6 => if r5 = 0 then (some ((0 : Int32), s6)) else (F_X5_canStand_18 s6 p0 p1))
set_option maxHeartbeats 4000000 in
theorem c_X5_canStand {l : Launch} {E : EV} (hE : GE E) (hS : ∀ σ, eSk E σ → SkM σ) {s s' : St} {r : Int32} {p0 : Int32} {p1 : Int32} (h : F_X5_canStand  s p0 p1 = some (r, s')) : CT l E yX5_canStand cX5_canStand 3 (some .boolean) 7 166 [vr (some 0), vi p0, vi p1] s (some (vi r)) s' := by
  refine CT.start hE (by decide) rfl [(0, vr (some 0)), (1, vi p0), (2, vi p1)] rfl (fun X hX B => ?_)
  skip
  have B : FX X E cX5_canStand 3 (some .boolean) "RoseThrowModel" "canStand" (sn s) (ss s) 7 166 := B
  unfold F_X5_canStand at h
  refine r_iload_n (j := 2) B dX5_canStand_0 rfl rfl ?_
  refine r_aload_n (j := 0) B dX5_canStand_1 rfl rfl ?_
  refine r_iload_n (j := 1) B dX5_canStand_2 rfl rfl ?_
  refine r_iconst (v := 3) B dX5_canStand_3 (by decide) ?_
  obtain ⟨r1, s2, hc3, h⟩ := bnd_e h
  refine r_callVv (As := [vi p0, vi (3 : Int32)]) (rest := [vi p1]) B rfl rfl EX.same (c_X5_ofCatcher B.ge hS hc3) (cw_X5_ofCatcher rfl rfl) (fun z => RV.of 5 ((fun z => by rw [(hS _ z).1 0 (by decide)]; rfl) z) rfl rfl qs52) q1766 q1768 rfl dX5_canStand_4 ?_
  refine r_ic_eq (tgt := 18) B dX5_canStand_7 (by decide) (fun cn4 => ?_) (fun cn4 => ?_)
  · have h := ot cn4 h
    exact w_X5_canStand_18 B hS s2 p0 p1 h
  · have h := of cn4 h
    refine r_aload_n (j := 0) B dX5_canStand_10 rfl rfl ?_
    refine r_iload_n (j := 2) B dX5_canStand_11 rfl rfl ?_
    obtain ⟨r5, s6, hc7, h⟩ := bnd_e h
    refine r_callVv (As := [vi p1]) (rest := []) B rfl rfl EX.same (c_X5_isFree B.ge hS hc7) (cw_X5_isFree rfl rfl) (fun z => RV.of 5 ((fun z => by rw [(hS _ z).1 0 (by decide)]; rfl) z) rfl rfl qs51) q1762 q1764 rfl dX5_canStand_12 ?_
    refine r_if_eq (tgt := 31) B dX5_canStand_15 (by decide) (fun cn8 => ?_) (fun cn8 => ?_)
    · have h := ot cn8 h
      refine r_iconst (v := 0) B dX5_canStand_31 (by decide) ?_
      exact r_zret B dX5_canStand_32 (by decide) h
    · have h := of cn8 h
      exact w_X5_canStand_18 B hS s6 p0 p1 h
set_option maxHeartbeats 4000000 in
theorem cw_X5_canStand {X : CX} {fr lo : Nat} (h1 : Nat.ble (7 + 1) fr = true) (h2 : Nat.ble (22 + 166) lo = true) : CW X fr lo yX5_canStand cX5_canStand 3 (some .boolean) 7 166 2 := ⟨q2061, q136, ⟨by decide +kernel, by decide +kernel, by decide +kernel⟩, Nat.le_of_ble_eq_true h1, Nat.le_of_ble_eq_true h2⟩

set_option maxHeartbeats 4000000 in
noncomputable def F_X5_partsAt (s : St) (p0 : Int32) (p1 : Int32) : Option (Int32 × St) := bnd (F_X5_ofCatcher s p0 (3 : Int32)) fun r1 s2 => bnd (F_X5_setCell s2 p0 p1) fun _ s5 => bnd (F_X5_findAll s5) fun _ s8 => bnd (F_X5_setCell s8 p0 r1) fun _ s11 => gd (inb p0 7) <| some ((si s11 26 p0.toNatClampNeg), s11)
set_option maxHeartbeats 4000000 in
theorem c_X5_partsAt {l : Launch} {E : EV} (hE : GE E) (hS : ∀ σ, eSk E σ → SkM σ) {s s' : St} {r : Int32} {p0 : Int32} {p1 : Int32} (h : F_X5_partsAt  s p0 p1 = some (r, s')) : CT l E yX5_partsAt cX5_partsAt 4 (some .int) 9 211 [vr (some 0), vi p0, vi p1] s (some (vi r)) s' := by
  refine CT.start hE (by decide) rfl [(0, vr (some 0)), (1, vi p0), (2, vi p1)] rfl (fun X hX B => ?_)
  skip
  have B : FX X E cX5_partsAt 4 (some .int) "RoseThrowModel" "partsAt" (sn s) (ss s) 9 211 := B
  unfold F_X5_partsAt at h
  refine r_aload_n (j := 0) B dX5_partsAt_0 rfl rfl ?_
  refine r_iload_n (j := 1) B dX5_partsAt_1 rfl rfl ?_
  refine r_iconst (v := 3) B dX5_partsAt_2 (by decide) ?_
  obtain ⟨r1, s2, hc3, h⟩ := bnd_e h
  refine r_callVv (As := [vi p0, vi (3 : Int32)]) (rest := []) B rfl rfl EX.same (c_X5_ofCatcher B.ge hS hc3) (cw_X5_ofCatcher rfl rfl) (fun z => RV.of 5 ((fun z => by rw [(hS _ z).1 0 (by decide)]; rfl) z) rfl rfl qs52) q1766 q1768 rfl dX5_partsAt_3 ?_
  refine r_istore_n (L' := [(0, vr (some 0)), (1, vi p0), (2, vi p1), (3, vi r1)]) B dX5_partsAt_6 rfl (by decide) rfl rfl rfl ?_
  refine r_aload_n (j := 0) B dX5_partsAt_7 rfl rfl ?_
  refine r_iload_n (j := 1) B dX5_partsAt_8 rfl rfl ?_
  refine r_iload_n (j := 2) B dX5_partsAt_9 rfl rfl ?_
  obtain ⟨r4, s5, hc6, h⟩ := bnd_e h
  refine r_callV0 (As := [vi p0, vi p1]) (rest := []) B rfl rfl EX.same (c_X5_setCell B.ge hS hc6) (cw_X5_setCell rfl rfl) (fun z => RV.of 5 ((fun z => by rw [(hS _ z).1 0 (by decide)]; rfl) z) rfl rfl qs49) q1732 q1734 rfl dX5_partsAt_10 ?_
  refine r_aload_n (j := 0) B dX5_partsAt_13 rfl rfl ?_
  obtain ⟨r7, s8, hc9, h⟩ := bnd_e h
  refine r_callV0 (As := []) (rest := []) B rfl rfl EX.same (c_X5_findAll B.ge hS hc9) (cw_X5_findAll rfl rfl) (fun z => RV.of 5 ((fun z => by rw [(hS _ z).1 0 (by decide)]; rfl) z) rfl rfl qs97) q2032 q2034 rfl dX5_partsAt_14 ?_
  refine r_aload_n (j := 0) B dX5_partsAt_17 rfl rfl ?_
  refine r_iload_n (j := 1) B dX5_partsAt_18 rfl rfl ?_
  refine r_iload_n (j := 3) B dX5_partsAt_19 rfl rfl ?_
  obtain ⟨r10, s11, hc12, h⟩ := bnd_e h
  refine r_callV0 (As := [vi p0, vi r1]) (rest := []) B rfl rfl EX.same (c_X5_setCell B.ge hS hc12) (cw_X5_setCell rfl rfl) (fun z => RV.of 5 ((fun z => by rw [(hS _ z).1 0 (by decide)]; rfl) z) rfl rfl qs49) q1732 q1734 rfl dX5_partsAt_20 ?_
  refine r_aload_n (j := 0) B dX5_partsAt_23 rfl rfl ?_
  refine g5 (k := 51) B (vr (some 26)) rfl (fun z => by rw [(hS _ z).1 0 (by decide)]; rfl) rfl q1568 rfl (fun z => by rw [(hS _ z).2 _ (List.mem_of_getElem? (i := 25) rfl)]; rfl) dX5_partsAt_24 ?_
  refine r_iload_n (j := 1) B dX5_partsAt_27 rfl rfl ?_
  obtain ⟨hg13, h⟩ := gd_e h
  refine r_iald B rfl (fun z => (hS _ z).1 26 (by decide)) hg13 dX5_partsAt_28 ?_
  exact r_iret B dX5_partsAt_29 h
set_option maxHeartbeats 4000000 in
theorem cw_X5_partsAt {X : CX} {fr lo : Nat} (h1 : Nat.ble (9 + 1) fr = true) (h2 : Nat.ble (23 + 211) lo = true) : CW X fr lo yX5_partsAt cX5_partsAt 4 (some .int) 9 211 2 := ⟨q2065, q136, ⟨by decide +kernel, by decide +kernel, by decide +kernel⟩, Nat.le_of_ble_eq_true h1, Nat.le_of_ble_eq_true h2⟩

set_option maxHeartbeats 4000000 in
noncomputable def F_X5_findStand_71 (k12 : St → Int32 → Int32 → Option (Unit × St)) (s : St) (x1 : Int32) (x2 : Int32) (z0 : Int32) : Option (Unit × St) := nam (setI s 0 53 z0) fun s1 => k12 s1 x1 (x2 + (1))
set_option maxHeartbeats 4000000 in
theorem w_X5_findStand_71 {X : CX} {E : EV} {a0 s' : St} {r : Unit} (B : FX X E cX5_findStand 4 none "RoseThrowModel" "findStand" (sn a0) (ss a0) 10 234) (hS : ∀ σ, eSk E σ → SkM σ) (k12 : St → Int32 → Int32 → Option (Unit × St)) (hk12 : ∀ (s : St) (x1 : Int32) (x2 : Int32), k12 s x1 x2 = some (r, s') → J X E (sn a0) (ss a0) 4 (QR X E a0 none s') s 12 [(0, vr (some 0)), (1, vi x1), (2, vi x2)] []) (s : St) (x1 : Int32) (x2 : Int32) (z0 : Int32) (h : F_X5_findStand_71  k12 s x1 x2 z0 = some (r, s')) : J X E (sn a0) (ss a0) 4 (QR X E a0 none s') s 71 [(0, vr (some 0)), (1, vi x1), (2, vi x2)] [vi z0, vr (some 0)] := by
  unfold F_X5_findStand_71 at h
  obtain ⟨s1, e2, h⟩ := nam_e h
  refine pI5 (k := 53) B e2 rfl (fun z => by rw [(hS _ z).1 0 (by decide)]; rfl) rfl q1570 rfl rfl (fun _ _ _ => rfl) rfl dX5_findStand_71 ?_
  refine r_iinc (j := 2) (v := (x2 + (1))) (L' := [(0, vr (some 0)), (1, vi x1), (2, vi (x2 + (1)))]) B dX5_findStand_74 rfl rfl (by decide) rfl rfl rfl ?_
  refine r_goto (tgt := 12) B dX5_findStand_77 (by decide) ?_
  exact hk12 s1 x1 (x2 + (1)) h
set_option maxHeartbeats 4000000 in
noncomputable def F_X5_findStand_51 (k12 : St → Int32 → Int32 → Option (Unit × St)) (s : St) (x1 : Int32) (x2 : Int32) (x3 : Int32) (z0 : Int32) : Option (Unit × St) := nam (setI s 0 52 z0) fun s1 => if x3 ≤ (si s1 0 53) then (F_X5_findStand_71 k12 s1 x1 x2 (si s1 0 53)) else (F_X5_findStand_71 k12 s1 x1 x2 x3)
set_option maxHeartbeats 4000000 in
theorem w_X5_findStand_51 {X : CX} {E : EV} {a0 s' : St} {r : Unit} (B : FX X E cX5_findStand 4 none "RoseThrowModel" "findStand" (sn a0) (ss a0) 10 234) (hS : ∀ σ, eSk E σ → SkM σ) (k12 : St → Int32 → Int32 → Option (Unit × St)) (hk12 : ∀ (s : St) (x1 : Int32) (x2 : Int32), k12 s x1 x2 = some (r, s') → J X E (sn a0) (ss a0) 4 (QR X E a0 none s') s 12 [(0, vr (some 0)), (1, vi x1), (2, vi x2)] []) (s : St) (x1 : Int32) (x2 : Int32) (x3 : Int32) (z0 : Int32) (h : F_X5_findStand_51  k12 s x1 x2 x3 z0 = some (r, s')) : J X E (sn a0) (ss a0) 4 (QR X E a0 none s') s 51 [(0, vr (some 0)), (1, vi x1), (2, vi x2), (3, vi x3)] [vi z0, vr (some 0)] := by
  unfold F_X5_findStand_51 at h
  obtain ⟨s1, e2, h⟩ := nam_e h
  refine pI5 (k := 52) B e2 rfl (fun z => by rw [(hS _ z).1 0 (by decide)]; rfl) rfl q1569 rfl rfl (fun _ _ _ => rfl) rfl dX5_findStand_51 ?_
  refine r_aload_n (j := 0) B dX5_findStand_54 rfl rfl ?_
  refine r_iload_n (j := 3) B dX5_findStand_55 rfl rfl ?_
  refine r_aload_n (j := 0) B dX5_findStand_56 rfl rfl ?_
  refine g5 (k := 53) B (vi (si s1 0 53)) rfl (fun z => by rw [(hS _ z).1 0 (by decide)]; rfl) rfl q1570 rfl (fun _ => rfl) dX5_findStand_57 ?_
  refine r_ic_le (tgt := 67) B dX5_findStand_60 (by decide) (fun cn3 => ?_) (fun cn3 => ?_)
  · have h := ot cn3 h
    refine r_aload_n (j := 0) B dX5_findStand_67 rfl rfl ?_
    refine g5 (k := 53) B (vi (si s1 0 53)) rfl (fun z => by rw [(hS _ z).1 0 (by decide)]; rfl) rfl q1570 rfl (fun _ => rfl) dX5_findStand_68 ?_
    refine r_pick [0, 1, 2] (L' := [(0, vr (some 0)), (1, vi x1), (2, vi x2)]) rfl ?_
    exact w_X5_findStand_71 B hS k12 hk12 s1 x1 x2 (si s1 0 53) h
  · have h := of cn3 h
    refine r_iload_n (j := 3) B dX5_findStand_63 rfl rfl ?_
    refine r_goto (tgt := 71) B dX5_findStand_64 (by decide) ?_
    refine r_pick [0, 1, 2] (L' := [(0, vr (some 0)), (1, vi x1), (2, vi x2)]) rfl ?_
    exact w_X5_findStand_71 B hS k12 hk12 s1 x1 x2 x3 h
set_option maxHeartbeats 4000000 in
noncomputable def F_X5_findStand_12 : Nat → St → Int32 → Int32 → Option (Unit × St)
  | 0 => fun _ _ _ => none
  | n + 1 => fun s x1 x2 => if (36 : Int32) ≤ x2 then (some ((), s)) else (bnd (F_X5_canStand s x1 x2) fun r2 s3 => if r2 = 0 then (F_X5_findStand_12  n s3 x1 (x2 + (1))) else (bnd (F_X5_partsAt s3 x1 x2) fun r6 s7 => if r6 ≤ (si s7 0 53) then (F_X5_findStand_51 (F_X5_findStand_12  n) s7 x1 x2 r6 (si s7 0 52)) else (F_X5_findStand_51 (F_X5_findStand_12  n) s7 x1 x2 r6 x2)))
set_option maxHeartbeats 4000000 in
theorem w_X5_findStand_12 {X : CX} {E : EV} {a0 s' : St} {r : Unit} (B : FX X E cX5_findStand 4 none "RoseThrowModel" "findStand" (sn a0) (ss a0) 10 234) (hS : ∀ σ, eSk E σ → SkM σ) : ∀ (n : Nat) (s : St) (x1 : Int32) (x2 : Int32), F_X5_findStand_12   n s x1 x2 = some (r, s') → J X E (sn a0) (ss a0) 4 (QR X E a0 none s') s 12 [(0, vr (some 0)), (1, vi x1), (2, vi x2)] [] := by
  intro n
  induction n with
  | zero => intro s x1 x2 h; exact absurd (show (none : Option (Unit × St)) = _ from h) (by simp)
  | succ n ih =>
    intro s x1 x2 h
    rw [F_X5_findStand_12] at h
    refine r_iload_n (j := 2) B dX5_findStand_12 rfl rfl ?_
    refine r_bipush (v := 36) B dX5_findStand_13 (by decide) ?_
    refine r_ic_ge (tgt := 80) B dX5_findStand_15 (by decide) (fun cn1 => ?_) (fun cn1 => ?_)
    · have h := ot cn1 h
      exact r_vret B dX5_findStand_80 h
    · have h := of cn1 h
      refine r_aload_n (j := 0) B dX5_findStand_18 rfl rfl ?_
      refine r_iload_n (j := 1) B dX5_findStand_19 rfl rfl ?_
      refine r_iload_n (j := 2) B dX5_findStand_20 rfl rfl ?_
      obtain ⟨r2, s3, hc4, h⟩ := bnd_e h
      refine r_callVv (As := [vi x1, vi x2]) (rest := []) B rfl rfl EX.same (c_X5_canStand B.ge hS hc4) (cw_X5_canStand rfl rfl) (fun z => RV.of 5 ((fun z => by rw [(hS _ z).1 0 (by decide)]; rfl) z) rfl rfl qs101) q2058 q2060 rfl dX5_findStand_21 ?_
      refine r_if_eq (tgt := 74) B dX5_findStand_24 (by decide) (fun cn5 => ?_) (fun cn5 => ?_)
      · have h := ot cn5 h
        refine r_iinc (j := 2) (v := (x2 + (1))) (L' := [(0, vr (some 0)), (1, vi x1), (2, vi (x2 + (1)))]) B dX5_findStand_74 rfl rfl (by decide) rfl rfl rfl ?_
        refine r_goto (tgt := 12) B dX5_findStand_77 (by decide) ?_
        exact ih s3 x1 (x2 + (1)) h
      · have h := of cn5 h
        refine r_aload_n (j := 0) B dX5_findStand_27 rfl rfl ?_
        refine r_iload_n (j := 1) B dX5_findStand_28 rfl rfl ?_
        refine r_iload_n (j := 2) B dX5_findStand_29 rfl rfl ?_
        obtain ⟨r6, s7, hc8, h⟩ := bnd_e h
        refine r_callVv (As := [vi x1, vi x2]) (rest := []) B rfl rfl EX.same (c_X5_partsAt B.ge hS hc8) (cw_X5_partsAt rfl rfl) (fun z => RV.of 5 ((fun z => by rw [(hS _ z).1 0 (by decide)]; rfl) z) rfl rfl qs102) q2062 q2064 rfl dX5_findStand_30 ?_
        refine r_istore_n (L' := [(0, vr (some 0)), (1, vi x1), (2, vi x2), (3, vi r6)]) B dX5_findStand_33 rfl (by decide) rfl rfl rfl ?_
        refine r_aload_n (j := 0) B dX5_findStand_34 rfl rfl ?_
        refine r_iload_n (j := 3) B dX5_findStand_35 rfl rfl ?_
        refine r_aload_n (j := 0) B dX5_findStand_36 rfl rfl ?_
        refine g5 (k := 53) B (vi (si s7 0 53)) rfl (fun z => by rw [(hS _ z).1 0 (by decide)]; rfl) rfl q1570 rfl (fun _ => rfl) dX5_findStand_37 ?_
        refine r_ic_le (tgt := 47) B dX5_findStand_40 (by decide) (fun cn9 => ?_) (fun cn9 => ?_)
        · have h := ot cn9 h
          refine r_aload_n (j := 0) B dX5_findStand_47 rfl rfl ?_
          refine g5 (k := 52) B (vi (si s7 0 52)) rfl (fun z => by rw [(hS _ z).1 0 (by decide)]; rfl) rfl q1569 rfl (fun _ => rfl) dX5_findStand_48 ?_
          exact w_X5_findStand_51 B hS (F_X5_findStand_12  n) ih s7 x1 x2 r6 (si s7 0 52) h
        · have h := of cn9 h
          refine r_iload_n (j := 2) B dX5_findStand_43 rfl rfl ?_
          refine r_goto (tgt := 51) B dX5_findStand_44 (by decide) ?_
          exact w_X5_findStand_51 B hS (F_X5_findStand_12  n) ih s7 x1 x2 r6 x2 h
set_option maxHeartbeats 4000000 in
noncomputable def F_X5_findStand (s : St) (p0 : Int32) : Option (Unit × St) := nam (setI s 0 52 (-1 : Int32)) fun s1 => nam (setI s1 0 53 (-1 : Int32)) fun s3 => F_X5_findStand_12 FU s3 p0 (0 : Int32)
set_option maxHeartbeats 4000000 in
theorem c_X5_findStand {l : Launch} {E : EV} (hE : GE E) (hS : ∀ σ, eSk E σ → SkM σ) {s s' : St} {r : Unit} {p0 : Int32} (h : F_X5_findStand  s p0 = some (r, s')) : CT l E yX5_findStand cX5_findStand 4 none 10 234 [vr (some 0), vi p0] s none s' := by
  refine CT.start hE (by decide) rfl [(0, vr (some 0)), (1, vi p0)] rfl (fun X hX B => ?_)
  skip
  have B : FX X E cX5_findStand 4 none "RoseThrowModel" "findStand" (sn s) (ss s) 10 234 := B
  unfold F_X5_findStand at h
  refine r_aload_n (j := 0) B dX5_findStand_0 rfl rfl ?_
  refine r_iconst (v := -1) B dX5_findStand_1 (by decide) ?_
  obtain ⟨s1, e2, h⟩ := nam_e h
  refine pI5 (k := 52) B e2 rfl (fun z => by rw [(hS _ z).1 0 (by decide)]; rfl) rfl q1569 rfl rfl (fun _ _ _ => rfl) rfl dX5_findStand_2 ?_
  refine r_aload_n (j := 0) B dX5_findStand_5 rfl rfl ?_
  refine r_iconst (v := -1) B dX5_findStand_6 (by decide) ?_
  obtain ⟨s3, e4, h⟩ := nam_e h
  refine pI5 (k := 53) B e4 rfl (fun z => by rw [(hS _ z).1 0 (by decide)]; rfl) rfl q1570 rfl rfl (fun _ _ _ => rfl) rfl dX5_findStand_7 ?_
  refine r_iconst (v := 0) B dX5_findStand_10 (by decide) ?_
  refine r_istore_n (L' := [(0, vr (some 0)), (1, vi p0), (2, vi (0 : Int32))]) B dX5_findStand_11 rfl (by decide) rfl rfl rfl ?_
  exact w_X5_findStand_12 B hS FU s3 p0 (0 : Int32) h
set_option maxHeartbeats 4000000 in
theorem cw_X5_findStand {X : CX} {fr lo : Nat} (h1 : Nat.ble (10 + 1) fr = true) (h2 : Nat.ble (23 + 234) lo = true) : CW X fr lo yX5_findStand cX5_findStand 4 none 10 234 1 := ⟨q2057, q136, ⟨by decide +kernel, by decide +kernel, by decide +kernel⟩, Nat.le_of_ble_eq_true h1, Nat.le_of_ble_eq_true h2⟩

set_option maxHeartbeats 4000000 in
noncomputable def F_X5_stand_50 (s : St)  : Option (Int64 × St) := some ((((si s 0 52)).toInt64), s)
set_option maxHeartbeats 4000000 in
theorem w_X5_stand_50 {X : CX} {E : EV} {a0 s' : St} {r : Int64} (B : FX X E cX5_stand 3 (some .long) "RoseThrowModel" "stand" (sn a0) (ss a0) 11 257) (hS : ∀ σ, eSk E σ → SkM σ) (s : St)  (h : F_X5_stand_50   s  = some (r, s')) : J X E (sn a0) (ss a0) 3 (QR X E a0 (some (vl r)) s') s 50 [(0, vr (some 0))] [] := by
  unfold F_X5_stand_50 at h
  refine r_aload_n (j := 0) B dX5_stand_50 rfl rfl ?_
  refine g5 (k := 52) B (vi (si s 0 52)) rfl (fun z => by rw [(hS _ z).1 0 (by decide)]; rfl) rfl q1569 rfl (fun _ => rfl) dX5_stand_51 ?_
  refine r_i2l B dX5_stand_54 ?_
  exact r_lret B dX5_stand_55 h
set_option maxHeartbeats 4000000 in
noncomputable def F_X5_stand (s : St) (p0 : Int32) (p1 : Int32) : Option (Int64 × St) := nam (setI s 0 0 (0 : Int32)) fun s1 => bnd (F_X5_isCatcher s1 p0) fun r3 s4 => if r3 = 0 then (some ((-1 : Int64), s4)) else (bnd (F_X5_in s4 ((p1).toInt64) (0 : Int64) (2 : Int64)) fun r7 s8 => if r7 = 0 then (some ((-1 : Int64), s8)) else (bnd (F_X5_aimNow s8) fun _ s12 => bnd (F_X5_findStand s12 p0) fun _ s15 => if (si s15 0 52) = (-1 : Int32) then (F_X5_stand_50 s15) else (if p1 = 0 then (F_X5_stand_50 s15) else (bnd (F_X5_shorten s15 (((si s15 0 53)).toInt64) ((((60 : Int32) * (si s15 0 45))).toInt64)) fun _ s20 => if p1 = (1 : Int32) then (some ((sl s20 0 46), s20)) else (some ((sl s20 0 47), s20))))))
set_option maxHeartbeats 4000000 in
theorem c_X5_stand {l : Launch} {E : EV} (hE : GE E) (hS : ∀ σ, eSk E σ → SkM σ) {s s' : St} {r : Int64} {p0 : Int32} {p1 : Int32} (h : F_X5_stand  s p0 p1 = some (r, s')) : CT l E yX5_stand cX5_stand 3 (some .long) 11 257 [vr (some 0), vi p0, vi p1] s (some (vl r)) s' := by
  refine CT.start hE (by decide) rfl [(0, vr (some 0)), (1, vi p0), (2, vi p1)] rfl (fun X hX B => ?_)
  skip
  have B : FX X E cX5_stand 3 (some .long) "RoseThrowModel" "stand" (sn s) (ss s) 11 257 := B
  unfold F_X5_stand at h
  refine r_aload_n (j := 0) B dX5_stand_0 rfl rfl ?_
  refine r_iconst (v := 0) B dX5_stand_1 (by decide) ?_
  obtain ⟨s1, e2, h⟩ := nam_e h
  refine pI5 (k := 0) B e2 rfl (fun z => by rw [(hS _ z).1 0 (by decide)]; rfl) rfl q1517 rfl rfl (fun _ _ _ => rfl) rfl dX5_stand_2 ?_
  refine r_aload_n (j := 0) B dX5_stand_5 rfl rfl ?_
  refine r_iload_n (j := 1) B dX5_stand_6 rfl rfl ?_
  obtain ⟨r3, s4, hc5, h⟩ := bnd_e h
  refine r_callVv (As := [vi p0]) (rest := []) B rfl rfl EX.same (c_X5_isCatcher B.ge hS hc5) (cw_X5_isCatcher rfl rfl) (fun z => RV.of 5 ((fun z => by rw [(hS _ z).1 0 (by decide)]; rfl) z) rfl rfl qs60) q1799 q1801 rfl dX5_stand_7 ?_
  refine r_if_eq (tgt := 25) B dX5_stand_10 (by decide) (fun cn6 => ?_) (fun cn6 => ?_)
  · have h := ot cn6 h
    refine r_ldc2 B dX5_stand_25 q1782 ?_
    exact r_lret B dX5_stand_28 h
  · have h := of cn6 h
    refine r_iload_n (j := 2) B dX5_stand_13 rfl rfl ?_
    refine r_i2l B dX5_stand_14 ?_
    refine r_lconst (v := 0) B dX5_stand_15 (by decide) ?_
    refine r_ldc2 B dX5_stand_16 q1835 ?_
    obtain ⟨r7, s8, hc9, h⟩ := bnd_e h
    refine r_callSv (As := [vl ((p1).toInt64), vl (0 : Int64), vl (2 : Int64)]) (rest := []) B rfl EX.same (c_X5_in B.ge hS hc9) (cw_X5_in rfl rfl) q1740 q1741 rfl dX5_stand_19 ?_
    refine r_if_ne (tgt := 29) B dX5_stand_22 (by decide) (fun cn10 => ?_) (fun cn10 => ?_)
    · have h := of cn10 h
      refine r_aload_n (j := 0) B dX5_stand_29 rfl rfl ?_
      obtain ⟨r11, s12, hc13, h⟩ := bnd_e h
      refine r_callV0 (As := []) (rest := []) B rfl rfl EX.same (c_X5_aimNow B.ge hS hc13) (cw_X5_aimNow rfl rfl) (fun z => RV.of 5 ((fun z => by rw [(hS _ z).1 0 (by decide)]; rfl) z) rfl rfl qs91) q2004 q2006 rfl dX5_stand_30 ?_
      refine r_aload_n (j := 0) B dX5_stand_33 rfl rfl ?_
      refine r_iload_n (j := 1) B dX5_stand_34 rfl rfl ?_
      obtain ⟨r14, s15, hc16, h⟩ := bnd_e h
      refine r_callV0 (As := [vi p0]) (rest := []) B rfl rfl EX.same (c_X5_findStand B.ge hS hc16) (cw_X5_findStand rfl rfl) (fun z => RV.of 5 ((fun z => by rw [(hS _ z).1 0 (by decide)]; rfl) z) rfl rfl qs100) q2054 q2056 rfl dX5_stand_35 ?_
      refine r_aload_n (j := 0) B dX5_stand_38 rfl rfl ?_
      refine g5 (k := 52) B (vi (si s15 0 52)) rfl (fun z => by rw [(hS _ z).1 0 (by decide)]; rfl) rfl q1569 rfl (fun _ => rfl) dX5_stand_39 ?_
      refine r_iconst (v := -1) B dX5_stand_42 (by decide) ?_
      refine r_ic_eq (tgt := 50) B dX5_stand_43 (by decide) (fun cn17 => ?_) (fun cn17 => ?_)
      · have h := ot cn17 h
        refine r_pick [0] (L' := [(0, vr (some 0))]) rfl ?_
        exact w_X5_stand_50 B hS s15 h
      · have h := of cn17 h
        refine r_iload_n (j := 2) B dX5_stand_46 rfl rfl ?_
        refine r_if_ne (tgt := 56) B dX5_stand_47 (by decide) (fun cn18 => ?_) (fun cn18 => ?_)
        · have h := of cn18 h
          refine r_aload_n (j := 0) B dX5_stand_56 rfl rfl ?_
          refine r_aload_n (j := 0) B dX5_stand_57 rfl rfl ?_
          refine g5 (k := 53) B (vi (si s15 0 53)) rfl (fun z => by rw [(hS _ z).1 0 (by decide)]; rfl) rfl q1570 rfl (fun _ => rfl) dX5_stand_58 ?_
          refine r_i2l B dX5_stand_61 ?_
          refine r_bipush (v := 60) B dX5_stand_62 (by decide) ?_
          refine r_aload_n (j := 0) B dX5_stand_64 rfl rfl ?_
          refine g5 (k := 45) B (vi (si s15 0 45)) rfl (fun z => by rw [(hS _ z).1 0 (by decide)]; rfl) rfl q1562 rfl (fun _ => rfl) dX5_stand_65 ?_
          refine r_imul B dX5_stand_68 ?_
          refine r_i2l B dX5_stand_69 ?_
          obtain ⟨r19, s20, hc21, h⟩ := bnd_e h
          refine r_callV0 (As := [vl (((si s15 0 53)).toInt64), vl ((((60 : Int32) * (si s15 0 45))).toInt64)]) (rest := []) B rfl rfl EX.same (c_X5_shorten B.ge hS hc21) (cw_X5_shorten rfl rfl) (fun z => RV.of 5 ((fun z => by rw [(hS _ z).1 0 (by decide)]; rfl) z) rfl rfl qs96) q2024 q2026 rfl dX5_stand_70 ?_
          refine r_iload_n (j := 2) B dX5_stand_73 rfl rfl ?_
          refine r_iconst (v := 1) B dX5_stand_74 (by decide) ?_
          refine r_ic_ne (tgt := 85) B dX5_stand_75 (by decide) (fun cn22 => ?_) (fun cn22 => ?_)
          · have h := of cn22 h
            refine r_aload_n (j := 0) B dX5_stand_85 rfl rfl ?_
            refine g5 (k := 47) B (vl (sl s20 0 47)) rfl (fun z => by rw [(hS _ z).1 0 (by decide)]; rfl) rfl q1564 rfl (fun _ => rfl) dX5_stand_86 ?_
            exact r_lret B dX5_stand_89 h
          · have h := ot cn22 h
            refine r_aload_n (j := 0) B dX5_stand_78 rfl rfl ?_
            refine g5 (k := 46) B (vl (sl s20 0 46)) rfl (fun z => by rw [(hS _ z).1 0 (by decide)]; rfl) rfl q1563 rfl (fun _ => rfl) dX5_stand_79 ?_
            refine r_goto (tgt := 89) B dX5_stand_82 (by decide) ?_
            exact r_lret B dX5_stand_89 h
        · have h := ot cn18 h
          refine r_pick [0] (L' := [(0, vr (some 0))]) rfl ?_
          exact w_X5_stand_50 B hS s15 h
    · have h := ot cn10 h
      refine r_ldc2 B dX5_stand_25 q1782 ?_
      exact r_lret B dX5_stand_28 h
set_option maxHeartbeats 4000000 in
theorem cw_X5_stand {X : CX} {fr lo : Nat} (h1 : Nat.ble (11 + 1) fr = true) (h2 : Nat.ble (22 + 257) lo = true) : CW X fr lo yX5_stand cX5_stand 3 (some .long) 11 257 2 := ⟨q2053, q136, ⟨by decide +kernel, by decide +kernel, by decide +kernel⟩, Nat.le_of_ble_eq_true h1, Nat.le_of_ble_eq_true h2⟩

set_option maxHeartbeats 4000000 in
noncomputable def F_X5_keepCells_2 : Nat → St → Int32 → Int32 → Option (Unit × St)
  | 0 => fun _ _ _ => none
  | n + 1 => fun s x1 x2 => if (6 : Int32) ≤ x2 then (some ((), s)) else (bnd (F_X5_ofCatcher s x2 (3 : Int32)) fun r2 s3 => gd (inb (x1 + x2) 108) <| nam (setI s3 5 (x1 + x2).toNatClampNeg r2) fun s6 => F_X5_keepCells_2  n s6 x1 (x2 + (1)))
set_option maxHeartbeats 4000000 in
theorem w_X5_keepCells_2 {X : CX} {E : EV} {a0 s' : St} {r : Unit} (B : FX X E cX5_keepCells 3 none "RoseThrowModel" "keepCells" (sn a0) (ss a0) 1 22) (hS : ∀ σ, eSk E σ → SkM σ) : ∀ (n : Nat) (s : St) (x1 : Int32) (x2 : Int32), F_X5_keepCells_2   n s x1 x2 = some (r, s') → J X E (sn a0) (ss a0) 3 (QR X E a0 none s') s 2 [(0, vr (some 0)), (1, vi x1), (2, vi x2)] [] := by
  intro n
  induction n with
  | zero => intro s x1 x2 h; exact absurd (show (none : Option (Unit × St)) = _ from h) (by simp)
  | succ n ih =>
    intro s x1 x2 h
    rw [F_X5_keepCells_2] at h
    refine r_iload_n (j := 2) B dX5_keepCells_2 rfl rfl ?_
    refine r_bipush (v := 6) B dX5_keepCells_3 (by decide) ?_
    refine r_ic_ge (tgt := 28) B dX5_keepCells_5 (by decide) (fun cn1 => ?_) (fun cn1 => ?_)
    · have h := ot cn1 h
      exact r_vret B dX5_keepCells_28 h
    · have h := of cn1 h
      refine r_aload_n (j := 0) B dX5_keepCells_8 rfl rfl ?_
      refine g5 (k := 6) B (vr (some 5)) rfl (fun z => by rw [(hS _ z).1 0 (by decide)]; rfl) rfl q1523 rfl (fun z => by rw [(hS _ z).2 _ (List.mem_of_getElem? (i := 4) rfl)]; rfl) dX5_keepCells_9 ?_
      refine r_iload_n (j := 1) B dX5_keepCells_12 rfl rfl ?_
      refine r_iload_n (j := 2) B dX5_keepCells_13 rfl rfl ?_
      refine r_iadd B dX5_keepCells_14 ?_
      refine r_aload_n (j := 0) B dX5_keepCells_15 rfl rfl ?_
      refine r_iload_n (j := 2) B dX5_keepCells_16 rfl rfl ?_
      refine r_iconst (v := 3) B dX5_keepCells_17 (by decide) ?_
      obtain ⟨r2, s3, hc4, h⟩ := bnd_e h
      refine r_callVv (As := [vi x2, vi (3 : Int32)]) (rest := [vi (x1 + x2), vr (some 5)]) B rfl rfl EX.same (c_X5_ofCatcher B.ge hS hc4) (cw_X5_ofCatcher rfl rfl) (fun z => RV.of 5 ((fun z => by rw [(hS _ z).1 0 (by decide)]; rfl) z) rfl rfl qs52) q1766 q1768 rfl dX5_keepCells_18 ?_
      obtain ⟨hg5, h⟩ := gd_e h
      obtain ⟨s6, e7, h⟩ := nam_e h
      refine r_iast B e7 rfl (fun z => (hS _ z).1 5 (by decide)) hg5 dX5_keepCells_21 ?_
      refine r_iinc (j := 2) (v := (x2 + (1))) (L' := [(0, vr (some 0)), (1, vi x1), (2, vi (x2 + (1)))]) B dX5_keepCells_22 rfl rfl (by decide) rfl rfl rfl ?_
      refine r_goto (tgt := 2) B dX5_keepCells_25 (by decide) ?_
      exact ih s6 x1 (x2 + (1)) h
set_option maxHeartbeats 4000000 in
noncomputable def F_X5_keepCells (s : St) (p0 : Int32) : Option (Unit × St) := F_X5_keepCells_2 FU s p0 (0 : Int32)
set_option maxHeartbeats 4000000 in
theorem c_X5_keepCells {l : Launch} {E : EV} (hE : GE E) (hS : ∀ σ, eSk E σ → SkM σ) {s s' : St} {r : Unit} {p0 : Int32} (h : F_X5_keepCells  s p0 = some (r, s')) : CT l E yX5_keepCells cX5_keepCells 3 none 1 22 [vr (some 0), vi p0] s none s' := by
  refine CT.start hE (by decide) rfl [(0, vr (some 0)), (1, vi p0)] rfl (fun X hX B => ?_)
  skip
  have B : FX X E cX5_keepCells 3 none "RoseThrowModel" "keepCells" (sn s) (ss s) 1 22 := B
  unfold F_X5_keepCells at h
  refine r_iconst (v := 0) B dX5_keepCells_0 (by decide) ?_
  refine r_istore_n (L' := [(0, vr (some 0)), (1, vi p0), (2, vi (0 : Int32))]) B dX5_keepCells_1 rfl (by decide) rfl rfl rfl ?_
  exact w_X5_keepCells_2 B hS FU s p0 (0 : Int32) h
set_option maxHeartbeats 4000000 in
theorem cw_X5_keepCells {X : CX} {fr lo : Nat} (h1 : Nat.ble (1 + 1) fr = true) (h2 : Nat.ble (22 + 22) lo = true) : CW X fr lo yX5_keepCells cX5_keepCells 3 none 1 22 1 := ⟨q2073, q136, ⟨by decide +kernel, by decide +kernel, by decide +kernel⟩, Nat.le_of_ble_eq_true h1, Nat.le_of_ble_eq_true h2⟩

set_option maxHeartbeats 4000000 in
noncomputable def F_X5_goRound_4 : Nat → St → Int32 → Int32 → Option (Int32 × St)
  | 0 => fun _ _ _ => none
  | n + 1 => fun s x1 x2 => gd (inb (0 : Int32) 5460) <| if (si s 2 (0 : Int32).toNatClampNeg) ≤ x2 then (gd (fits .boolean (.int x1)) <| some (x1, s)) else (bnd (F_X5_ofCatcher s x2 (1 : Int32)) fun r4 s5 => if r4 ≤ 0 then (F_X5_goRound_4  n s5 x1 (x2 + (1))) else (bnd (F_X5_ofCatcher s5 x2 (3 : Int32)) fun r8 s9 => bnd (F_X5_partsAt s9 x2 r8) fun r11 s12 => bnd (F_X5_findStand s12 x2) fun _ s15 => if (si s15 0 53) ≤ r11 then (F_X5_goRound_4  n s15 x1 (x2 + (1))) else (bnd (F_X5_setCell s15 x2 (si s15 0 52)) fun _ s19 => F_X5_goRound_4  n s19 (1 : Int32) (x2 + (1)))))
set_option maxHeartbeats 4000000 in
theorem w_X5_goRound_4 {X : CX} {E : EV} {a0 s' : St} {r : Int32} (B : FX X E cX5_goRound 4 (some .boolean) "RoseThrowModel" "goRound" (sn a0) (ss a0) 11 257) (hS : ∀ σ, eSk E σ → SkM σ) : ∀ (n : Nat) (s : St) (x1 : Int32) (x2 : Int32), F_X5_goRound_4   n s x1 x2 = some (r, s') → J X E (sn a0) (ss a0) 4 (QR X E a0 (some (vi r)) s') s 4 [(0, vr (some 0)), (1, vi x1), (2, vi x2)] [] := by
  intro n
  induction n with
  | zero => intro s x1 x2 h; exact absurd (show (none : Option (Int32 × St)) = _ from h) (by simp)
  | succ n ih =>
    intro s x1 x2 h
    rw [F_X5_goRound_4] at h
    refine r_iload_n (j := 2) B dX5_goRound_4 rfl rfl ?_
    refine r_aload_n (j := 0) B dX5_goRound_5 rfl rfl ?_
    refine g5 (k := 3) B (vr (some 2)) rfl (fun z => by rw [(hS _ z).1 0 (by decide)]; rfl) rfl q1520 rfl (fun z => by rw [(hS _ z).2 _ (List.mem_of_getElem? (i := 1) rfl)]; rfl) dX5_goRound_6 ?_
    refine r_iconst (v := 0) B dX5_goRound_9 (by decide) ?_
    obtain ⟨hg1, h⟩ := gd_e h
    refine r_iald B rfl (fun z => (hS _ z).1 2 (by decide)) hg1 dX5_goRound_10 ?_
    refine r_ic_ge (tgt := 65) B dX5_goRound_11 (by decide) (fun cn2 => ?_) (fun cn2 => ?_)
    · have h := ot cn2 h
      refine r_iload_n (j := 1) B dX5_goRound_65 rfl rfl ?_
      obtain ⟨hg3, h⟩ := gd_e h
      exact r_zret B dX5_goRound_66 hg3 h
    · have h := of cn2 h
      refine r_aload_n (j := 0) B dX5_goRound_14 rfl rfl ?_
      refine r_iload_n (j := 2) B dX5_goRound_15 rfl rfl ?_
      refine r_iconst (v := 1) B dX5_goRound_16 (by decide) ?_
      obtain ⟨r4, s5, hc6, h⟩ := bnd_e h
      refine r_callVv (As := [vi x2, vi (1 : Int32)]) (rest := []) B rfl rfl EX.same (c_X5_ofCatcher B.ge hS hc6) (cw_X5_ofCatcher rfl rfl) (fun z => RV.of 5 ((fun z => by rw [(hS _ z).1 0 (by decide)]; rfl) z) rfl rfl qs52) q1766 q1768 rfl dX5_goRound_17 ?_
      refine r_if_le (tgt := 59) B dX5_goRound_20 (by decide) (fun cn7 => ?_) (fun cn7 => ?_)
      · have h := ot cn7 h
        refine r_iinc (j := 2) (v := (x2 + (1))) (L' := [(0, vr (some 0)), (1, vi x1), (2, vi (x2 + (1)))]) B dX5_goRound_59 rfl rfl (by decide) rfl rfl rfl ?_
        refine r_goto (tgt := 4) B dX5_goRound_62 (by decide) ?_
        exact ih s5 x1 (x2 + (1)) h
      · have h := of cn7 h
        refine r_aload_n (j := 0) B dX5_goRound_23 rfl rfl ?_
        refine r_iload_n (j := 2) B dX5_goRound_24 rfl rfl ?_
        refine r_aload_n (j := 0) B dX5_goRound_25 rfl rfl ?_
        refine r_iload_n (j := 2) B dX5_goRound_26 rfl rfl ?_
        refine r_iconst (v := 3) B dX5_goRound_27 (by decide) ?_
        obtain ⟨r8, s9, hc10, h⟩ := bnd_e h
        refine r_callVv (As := [vi x2, vi (3 : Int32)]) (rest := [vi x2, vr (some 0)]) B rfl rfl EX.same (c_X5_ofCatcher B.ge hS hc10) (cw_X5_ofCatcher rfl rfl) (fun z => RV.of 5 ((fun z => by rw [(hS _ z).1 0 (by decide)]; rfl) z) rfl rfl qs52) q1766 q1768 rfl dX5_goRound_28 ?_
        obtain ⟨r11, s12, hc13, h⟩ := bnd_e h
        refine r_callVv (As := [vi x2, vi r8]) (rest := []) B rfl rfl EX.same (c_X5_partsAt B.ge hS hc13) (cw_X5_partsAt rfl rfl) (fun z => RV.of 5 ((fun z => by rw [(hS _ z).1 0 (by decide)]; rfl) z) rfl rfl qs102) q2062 q2064 rfl dX5_goRound_31 ?_
        refine r_istore_n (L' := [(0, vr (some 0)), (1, vi x1), (2, vi x2), (3, vi r11)]) B dX5_goRound_34 rfl (by decide) rfl rfl rfl ?_
        refine r_aload_n (j := 0) B dX5_goRound_35 rfl rfl ?_
        refine r_iload_n (j := 2) B dX5_goRound_36 rfl rfl ?_
        obtain ⟨r14, s15, hc16, h⟩ := bnd_e h
        refine r_callV0 (As := [vi x2]) (rest := []) B rfl rfl EX.same (c_X5_findStand B.ge hS hc16) (cw_X5_findStand rfl rfl) (fun z => RV.of 5 ((fun z => by rw [(hS _ z).1 0 (by decide)]; rfl) z) rfl rfl qs100) q2054 q2056 rfl dX5_goRound_37 ?_
        refine r_aload_n (j := 0) B dX5_goRound_40 rfl rfl ?_
        refine g5 (k := 53) B (vi (si s15 0 53)) rfl (fun z => by rw [(hS _ z).1 0 (by decide)]; rfl) rfl q1570 rfl (fun _ => rfl) dX5_goRound_41 ?_
        refine r_iload_n (j := 3) B dX5_goRound_44 rfl rfl ?_
        refine r_ic_le (tgt := 59) B dX5_goRound_45 (by decide) (fun cn17 => ?_) (fun cn17 => ?_)
        · have h := ot cn17 h
          refine r_iinc (j := 2) (v := (x2 + (1))) (L' := [(0, vr (some 0)), (1, vi x1), (2, vi (x2 + (1))), (3, vi r11)]) B dX5_goRound_59 rfl rfl (by decide) rfl rfl rfl ?_
          refine r_goto (tgt := 4) B dX5_goRound_62 (by decide) ?_
          refine r_pick [0, 1, 2] (L' := [(0, vr (some 0)), (1, vi x1), (2, vi (x2 + (1)))]) rfl ?_
          exact ih s15 x1 (x2 + (1)) h
        · have h := of cn17 h
          refine r_aload_n (j := 0) B dX5_goRound_48 rfl rfl ?_
          refine r_iload_n (j := 2) B dX5_goRound_49 rfl rfl ?_
          refine r_aload_n (j := 0) B dX5_goRound_50 rfl rfl ?_
          refine g5 (k := 52) B (vi (si s15 0 52)) rfl (fun z => by rw [(hS _ z).1 0 (by decide)]; rfl) rfl q1569 rfl (fun _ => rfl) dX5_goRound_51 ?_
          obtain ⟨r18, s19, hc20, h⟩ := bnd_e h
          refine r_callV0 (As := [vi x2, vi (si s15 0 52)]) (rest := []) B rfl rfl EX.same (c_X5_setCell B.ge hS hc20) (cw_X5_setCell rfl rfl) (fun z => RV.of 5 ((fun z => by rw [(hS _ z).1 0 (by decide)]; rfl) z) rfl rfl qs49) q1732 q1734 rfl dX5_goRound_54 ?_
          refine r_iconst (v := 1) B dX5_goRound_57 (by decide) ?_
          refine r_istore_n (L' := [(0, vr (some 0)), (1, vi (1 : Int32)), (2, vi x2), (3, vi r11)]) B dX5_goRound_58 rfl (by decide) rfl rfl rfl ?_
          refine r_iinc (j := 2) (v := (x2 + (1))) (L' := [(0, vr (some 0)), (1, vi (1 : Int32)), (2, vi (x2 + (1))), (3, vi r11)]) B dX5_goRound_59 rfl rfl (by decide) rfl rfl rfl ?_
          refine r_goto (tgt := 4) B dX5_goRound_62 (by decide) ?_
          refine r_pick [0, 1, 2] (L' := [(0, vr (some 0)), (1, vi (1 : Int32)), (2, vi (x2 + (1)))]) rfl ?_
          exact ih s19 (1 : Int32) (x2 + (1)) h
set_option maxHeartbeats 4000000 in
noncomputable def F_X5_goRound (s : St)  : Option (Int32 × St) := F_X5_goRound_4 FU s (0 : Int32) (0 : Int32)
set_option maxHeartbeats 4000000 in
theorem c_X5_goRound {l : Launch} {E : EV} (hE : GE E) (hS : ∀ σ, eSk E σ → SkM σ) {s s' : St} {r : Int32}  (h : F_X5_goRound  s  = some (r, s')) : CT l E yX5_goRound cX5_goRound 4 (some .boolean) 11 257 [vr (some 0)] s (some (vi r)) s' := by
  refine CT.start hE (by decide) rfl [(0, vr (some 0))] rfl (fun X hX B => ?_)
  skip
  have B : FX X E cX5_goRound 4 (some .boolean) "RoseThrowModel" "goRound" (sn s) (ss s) 11 257 := B
  unfold F_X5_goRound at h
  refine r_iconst (v := 0) B dX5_goRound_0 (by decide) ?_
  refine r_istore_n (L' := [(0, vr (some 0)), (1, vi (0 : Int32))]) B dX5_goRound_1 rfl (by decide) rfl rfl rfl ?_
  refine r_iconst (v := 0) B dX5_goRound_2 (by decide) ?_
  refine r_istore_n (L' := [(0, vr (some 0)), (1, vi (0 : Int32)), (2, vi (0 : Int32))]) B dX5_goRound_3 rfl (by decide) rfl rfl rfl ?_
  exact w_X5_goRound_4 B hS FU s (0 : Int32) (0 : Int32) h
set_option maxHeartbeats 4000000 in
theorem cw_X5_goRound {X : CX} {fr lo : Nat} (h1 : Nat.ble (11 + 1) fr = true) (h2 : Nat.ble (23 + 257) lo = true) : CW X fr lo yX5_goRound cX5_goRound 4 (some .boolean) 11 257 0 := ⟨q2077, q136, ⟨by decide +kernel, by decide +kernel, by decide +kernel⟩, Nat.le_of_ble_eq_true h1, Nat.le_of_ble_eq_true h2⟩

set_option maxHeartbeats 4000000 in
noncomputable def F_X5_rests_78 (s : St) (z0 : Int32) : Option (Int32 × St) := bnd (F_X5_putBack s (96 : Int32)) fun _ s2 => some (z0, s2)
set_option maxHeartbeats 4000000 in
theorem w_X5_rests_78 {X : CX} {E : EV} {a0 s' : St} {r : Int32} (B : FX X E cX5_rests 5 (some .int) "RoseThrowModel" "rests" (sn a0) (ss a0) 12 280) (hS : ∀ σ, eSk E σ → SkM σ) (s : St) (z0 : Int32) (h : F_X5_rests_78   s z0 = some (r, s')) : J X E (sn a0) (ss a0) 5 (QR X E a0 (some (vi r)) s') s 78 [(0, vr (some 0))] [vi z0] := by
  unfold F_X5_rests_78 at h
  refine r_istore (L' := [(0, vr (some 0)), (4, vi z0)]) B dX5_rests_78 (by decide) rfl rfl rfl ?_
  refine r_aload_n (j := 0) B dX5_rests_80 rfl rfl ?_
  refine r_bipush (v := 96) B dX5_rests_81 (by decide) ?_
  obtain ⟨r1, s2, hc3, h⟩ := bnd_e h
  refine r_callV0 (As := [vi (96 : Int32)]) (rest := []) B rfl rfl EX.same (c_X5_putBack B.ge hS hc3) (cw_X5_putBack rfl rfl) (fun z => RV.of 5 ((fun z => by rw [(hS _ z).1 0 (by decide)]; rfl) z) rfl rfl qs48) q1728 q1730 rfl dX5_rests_83 ?_
  refine r_iload (j := 1) B dX5_rests_86 rfl ?_
  exact r_iret B dX5_rests_88 h
set_option maxHeartbeats 4000000 in
noncomputable def F_X5_rests_55 (s : St) (x1 : Int32) (x2 : Int32) (x3 : Int32) : Option (Int32 × St) := if x3 = 0 then (if x1 = (-1 : Int32) then (F_X5_rests_78 s x2) else (bnd (F_X5_ofCatcher s x1 (3 : Int32)) fun r3 s4 => F_X5_rests_78 s4 r3)) else (F_X5_rests_78 s (-1 : Int32))
set_option maxHeartbeats 4000000 in
theorem w_X5_rests_55 {X : CX} {E : EV} {a0 s' : St} {r : Int32} (B : FX X E cX5_rests 5 (some .int) "RoseThrowModel" "rests" (sn a0) (ss a0) 12 280) (hS : ∀ σ, eSk E σ → SkM σ) (s : St) (x1 : Int32) (x2 : Int32) (x3 : Int32) (h : F_X5_rests_55   s x1 x2 x3 = some (r, s')) : J X E (sn a0) (ss a0) 5 (QR X E a0 (some (vi r)) s') s 55 [(0, vr (some 0)), (1, vi x1), (2, vi x2), (3, vi x3)] [] := by
  unfold F_X5_rests_55 at h
  refine r_iload_n (j := 3) B dX5_rests_55 rfl rfl ?_
  refine r_if_eq (tgt := 63) B dX5_rests_56 (by decide) (fun cn1 => ?_) (fun cn1 => ?_)
  · have h := ot cn1 h
    refine r_iload_n (j := 1) B dX5_rests_63 rfl rfl ?_
    refine r_iconst (v := -1) B dX5_rests_64 (by decide) ?_
    refine r_ic_ne (tgt := 72) B dX5_rests_65 (by decide) (fun cn2 => ?_) (fun cn2 => ?_)
    · have h := of cn2 h
      refine r_aload_n (j := 0) B dX5_rests_72 rfl rfl ?_
      refine r_iload_n (j := 1) B dX5_rests_73 rfl rfl ?_
      refine r_iconst (v := 3) B dX5_rests_74 (by decide) ?_
      obtain ⟨r3, s4, hc5, h⟩ := bnd_e h
      refine r_callVv (As := [vi x1, vi (3 : Int32)]) (rest := []) B rfl rfl EX.same (c_X5_ofCatcher B.ge hS hc5) (cw_X5_ofCatcher rfl rfl) (fun z => RV.of 5 ((fun z => by rw [(hS _ z).1 0 (by decide)]; rfl) z) rfl rfl qs52) q1766 q1768 rfl dX5_rests_75 ?_
      refine r_pick [0] (L' := [(0, vr (some 0))]) rfl ?_
      exact w_X5_rests_78 B hS s4 r3 h
    · have h := ot cn2 h
      refine r_iload_n (j := 2) B dX5_rests_68 rfl rfl ?_
      refine r_goto (tgt := 78) B dX5_rests_69 (by decide) ?_
      refine r_pick [0] (L' := [(0, vr (some 0))]) rfl ?_
      exact w_X5_rests_78 B hS s x2 h
  · have h := of cn1 h
    refine r_iconst (v := -1) B dX5_rests_59 (by decide) ?_
    refine r_goto (tgt := 78) B dX5_rests_60 (by decide) ?_
    refine r_pick [0] (L' := [(0, vr (some 0))]) rfl ?_
    exact w_X5_rests_78 B hS s (-1 : Int32) h
set_option maxHeartbeats 4000000 in
noncomputable def F_X5_rests_34 : Nat → St → Int32 → Int32 → Int32 → Option (Int32 × St)
  | 0 => fun _ _ _ _ => none
  | n + 1 => fun s x1 x2 x3 => if x3 = 0 then (F_X5_rests_55 s x1 x2 x3) else (if (50 : Int32) ≤ x2 then (F_X5_rests_55 s x1 x2 x3) else (bnd (F_X5_goRound s) fun r3 s4 => F_X5_rests_34  n s4 x1 (x2 + (1)) r3))
set_option maxHeartbeats 4000000 in
theorem w_X5_rests_34 {X : CX} {E : EV} {a0 s' : St} {r : Int32} (B : FX X E cX5_rests 5 (some .int) "RoseThrowModel" "rests" (sn a0) (ss a0) 12 280) (hS : ∀ σ, eSk E σ → SkM σ) : ∀ (n : Nat) (s : St) (x1 : Int32) (x2 : Int32) (x3 : Int32), F_X5_rests_34   n s x1 x2 x3 = some (r, s') → J X E (sn a0) (ss a0) 5 (QR X E a0 (some (vi r)) s') s 34 [(0, vr (some 0)), (1, vi x1), (2, vi x2), (3, vi x3)] [] := by
  intro n
  induction n with
  | zero => intro s x1 x2 x3 h; exact absurd (show (none : Option (Int32 × St)) = _ from h) (by simp)
  | succ n ih =>
    intro s x1 x2 x3 h
    rw [F_X5_rests_34] at h
    refine r_iload_n (j := 3) B dX5_rests_34 rfl rfl ?_
    refine r_if_eq (tgt := 55) B dX5_rests_35 (by decide) (fun cn1 => ?_) (fun cn1 => ?_)
    · have h := ot cn1 h
      exact w_X5_rests_55 B hS s x1 x2 x3 h
    · have h := of cn1 h
      refine r_iload_n (j := 2) B dX5_rests_38 rfl rfl ?_
      refine r_bipush (v := 50) B dX5_rests_39 (by decide) ?_
      refine r_ic_ge (tgt := 55) B dX5_rests_41 (by decide) (fun cn2 => ?_) (fun cn2 => ?_)
      · have h := ot cn2 h
        exact w_X5_rests_55 B hS s x1 x2 x3 h
      · have h := of cn2 h
        refine r_aload_n (j := 0) B dX5_rests_44 rfl rfl ?_
        obtain ⟨r3, s4, hc5, h⟩ := bnd_e h
        refine r_callVv (As := []) (rest := []) B rfl rfl EX.same (c_X5_goRound B.ge hS hc5) (cw_X5_goRound rfl rfl) (fun z => RV.of 5 ((fun z => by rw [(hS _ z).1 0 (by decide)]; rfl) z) rfl rfl qs104) q2074 q2076 rfl dX5_rests_45 ?_
        refine r_istore_n (L' := [(0, vr (some 0)), (1, vi x1), (2, vi x2), (3, vi r3)]) B dX5_rests_48 rfl (by decide) rfl rfl rfl ?_
        refine r_iinc (j := 2) (v := (x2 + (1))) (L' := [(0, vr (some 0)), (1, vi x1), (2, vi (x2 + (1))), (3, vi r3)]) B dX5_rests_49 rfl rfl (by decide) rfl rfl rfl ?_
        refine r_goto (tgt := 34) B dX5_rests_52 (by decide) ?_
        exact ih s4 x1 (x2 + (1)) r3 h
set_option maxHeartbeats 4000000 in
noncomputable def F_X5_rests_20 (s : St) (x1 : Int32) : Option (Int32 × St) := bnd (F_X5_keepCells s (96 : Int32)) fun _ s2 => bnd (F_X5_aimNow s2) fun _ s5 => F_X5_rests_34 FU s5 x1 (0 : Int32) (1 : Int32)
set_option maxHeartbeats 4000000 in
theorem w_X5_rests_20 {X : CX} {E : EV} {a0 s' : St} {r : Int32} (B : FX X E cX5_rests 5 (some .int) "RoseThrowModel" "rests" (sn a0) (ss a0) 12 280) (hS : ∀ σ, eSk E σ → SkM σ) (s : St) (x1 : Int32) (h : F_X5_rests_20   s x1 = some (r, s')) : J X E (sn a0) (ss a0) 5 (QR X E a0 (some (vi r)) s') s 20 [(0, vr (some 0)), (1, vi x1)] [] := by
  unfold F_X5_rests_20 at h
  refine r_aload_n (j := 0) B dX5_rests_20 rfl rfl ?_
  refine r_bipush (v := 96) B dX5_rests_21 (by decide) ?_
  obtain ⟨r1, s2, hc3, h⟩ := bnd_e h
  refine r_callV0 (As := [vi (96 : Int32)]) (rest := []) B rfl rfl EX.same (c_X5_keepCells B.ge hS hc3) (cw_X5_keepCells rfl rfl) (fun z => RV.of 5 ((fun z => by rw [(hS _ z).1 0 (by decide)]; rfl) z) rfl rfl qs103) q2070 q2072 rfl dX5_rests_23 ?_
  refine r_aload_n (j := 0) B dX5_rests_26 rfl rfl ?_
  obtain ⟨r4, s5, hc6, h⟩ := bnd_e h
  refine r_callV0 (As := []) (rest := []) B rfl rfl EX.same (c_X5_aimNow B.ge hS hc6) (cw_X5_aimNow rfl rfl) (fun z => RV.of 5 ((fun z => by rw [(hS _ z).1 0 (by decide)]; rfl) z) rfl rfl qs91) q2004 q2006 rfl dX5_rests_27 ?_
  refine r_iconst (v := 0) B dX5_rests_30 (by decide) ?_
  refine r_istore_n (L' := [(0, vr (some 0)), (1, vi x1), (2, vi (0 : Int32))]) B dX5_rests_31 rfl (by decide) rfl rfl rfl ?_
  refine r_iconst (v := 1) B dX5_rests_32 (by decide) ?_
  refine r_istore_n (L' := [(0, vr (some 0)), (1, vi x1), (2, vi (0 : Int32)), (3, vi (1 : Int32))]) B dX5_rests_33 rfl (by decide) rfl rfl rfl ?_
  exact w_X5_rests_34 B hS FU s5 x1 (0 : Int32) (1 : Int32) h
set_option maxHeartbeats 4000000 in
noncomputable def F_X5_rests (s : St) (p0 : Int32) : Option (Int32 × St) := nam (setI s 0 0 (0 : Int32)) fun s1 => if p0 = (-1 : Int32) then (F_X5_rests_20 s1 p0) else (bnd (F_X5_isCatcher s1 p0) fun r4 s5 => if r4 = 0 then (some ((-1 : Int32), s5)) else (F_X5_rests_20 s5 p0))
set_option maxHeartbeats 4000000 in
theorem c_X5_rests {l : Launch} {E : EV} (hE : GE E) (hS : ∀ σ, eSk E σ → SkM σ) {s s' : St} {r : Int32} {p0 : Int32} (h : F_X5_rests  s p0 = some (r, s')) : CT l E yX5_rests cX5_rests 5 (some .int) 12 280 [vr (some 0), vi p0] s (some (vi r)) s' := by
  refine CT.start hE (by decide) rfl [(0, vr (some 0)), (1, vi p0)] rfl (fun X hX B => ?_)
  skip
  have B : FX X E cX5_rests 5 (some .int) "RoseThrowModel" "rests" (sn s) (ss s) 12 280 := B
  unfold F_X5_rests at h
  refine r_aload_n (j := 0) B dX5_rests_0 rfl rfl ?_
  refine r_iconst (v := 0) B dX5_rests_1 (by decide) ?_
  obtain ⟨s1, e2, h⟩ := nam_e h
  refine pI5 (k := 0) B e2 rfl (fun z => by rw [(hS _ z).1 0 (by decide)]; rfl) rfl q1517 rfl rfl (fun _ _ _ => rfl) rfl dX5_rests_2 ?_
  refine r_iload_n (j := 1) B dX5_rests_5 rfl rfl ?_
  refine r_iconst (v := -1) B dX5_rests_6 (by decide) ?_
  refine r_ic_eq (tgt := 20) B dX5_rests_7 (by decide) (fun cn3 => ?_) (fun cn3 => ?_)
  · have h := ot cn3 h
    exact w_X5_rests_20 B hS s1 p0 h
  · have h := of cn3 h
    refine r_aload_n (j := 0) B dX5_rests_10 rfl rfl ?_
    refine r_iload_n (j := 1) B dX5_rests_11 rfl rfl ?_
    obtain ⟨r4, s5, hc6, h⟩ := bnd_e h
    refine r_callVv (As := [vi p0]) (rest := []) B rfl rfl EX.same (c_X5_isCatcher B.ge hS hc6) (cw_X5_isCatcher rfl rfl) (fun z => RV.of 5 ((fun z => by rw [(hS _ z).1 0 (by decide)]; rfl) z) rfl rfl qs60) q1799 q1801 rfl dX5_rests_12 ?_
    refine r_if_ne (tgt := 20) B dX5_rests_15 (by decide) (fun cn7 => ?_) (fun cn7 => ?_)
    · have h := of cn7 h
      exact w_X5_rests_20 B hS s5 p0 h
    · have h := ot cn7 h
      refine r_iconst (v := -1) B dX5_rests_18 (by decide) ?_
      exact r_iret B dX5_rests_19 h
set_option maxHeartbeats 4000000 in
theorem cw_X5_rests {X : CX} {fr lo : Nat} (h1 : Nat.ble (12 + 1) fr = true) (h2 : Nat.ble (24 + 280) lo = true) : CW X fr lo yX5_rests cX5_rests 5 (some .int) 12 280 1 := ⟨q2069, q136, ⟨by decide +kernel, by decide +kernel, by decide +kernel⟩, Nat.le_of_ble_eq_true h1, Nat.le_of_ble_eq_true h2⟩

set_option maxHeartbeats 4000000 in
noncomputable def F_X5_beginBest (s : St)  : Option (Unit × St) := nam (setI s 0 54 (-1 : Int32)) fun s1 => nam (setI s1 0 55 (-1 : Int32)) fun s3 => nam (setL s3 0 56 (-1 : Int64)) fun s5 => nam (setL s5 0 57 (1 : Int64)) fun s7 => some ((), s7)
set_option maxHeartbeats 4000000 in
theorem c_X5_beginBest {l : Launch} {E : EV} (hE : GE E) (hS : ∀ σ, eSk E σ → SkM σ) {s s' : St} {r : Unit}  (h : F_X5_beginBest  s  = some (r, s')) : CT l E yX5_beginBest cX5_beginBest 1 none 0 0 [vr (some 0)] s none s' := by
  refine CT.start hE (by decide) rfl [(0, vr (some 0))] rfl (fun X hX B => ?_)
  skip
  have B : FX X E cX5_beginBest 1 none "RoseThrowModel" "beginBest" (sn s) (ss s) 0 0 := B
  unfold F_X5_beginBest at h
  refine r_aload_n (j := 0) B dX5_beginBest_0 rfl rfl ?_
  refine r_iconst (v := -1) B dX5_beginBest_1 (by decide) ?_
  obtain ⟨s1, e2, h⟩ := nam_e h
  refine pI5 (k := 54) B e2 rfl (fun z => by rw [(hS _ z).1 0 (by decide)]; rfl) rfl q1571 rfl rfl (fun _ _ _ => rfl) rfl dX5_beginBest_2 ?_
  refine r_aload_n (j := 0) B dX5_beginBest_5 rfl rfl ?_
  refine r_iconst (v := -1) B dX5_beginBest_6 (by decide) ?_
  obtain ⟨s3, e4, h⟩ := nam_e h
  refine pI5 (k := 55) B e4 rfl (fun z => by rw [(hS _ z).1 0 (by decide)]; rfl) rfl q1572 rfl rfl (fun _ _ _ => rfl) rfl dX5_beginBest_7 ?_
  refine r_aload_n (j := 0) B dX5_beginBest_10 rfl rfl ?_
  refine r_ldc2 B dX5_beginBest_11 q1782 ?_
  obtain ⟨s5, e6, h⟩ := nam_e h
  refine pL5 (k := 56) B e6 rfl (fun z => by rw [(hS _ z).1 0 (by decide)]; rfl) rfl q1573 rfl rfl rfl dX5_beginBest_14 ?_
  refine r_aload_n (j := 0) B dX5_beginBest_17 rfl rfl ?_
  refine r_lconst (v := 1) B dX5_beginBest_18 (by decide) ?_
  obtain ⟨s7, e8, h⟩ := nam_e h
  refine pL5 (k := 57) B e8 rfl (fun z => by rw [(hS _ z).1 0 (by decide)]; rfl) rfl q1574 rfl rfl rfl dX5_beginBest_19 ?_
  exact r_vret B dX5_beginBest_22 h
set_option maxHeartbeats 4000000 in
theorem cw_X5_beginBest {X : CX} {fr lo : Nat} (h1 : Nat.ble (0 + 1) fr = true) (h2 : Nat.ble (20 + 0) lo = true) : CW X fr lo yX5_beginBest cX5_beginBest 1 none 0 0 0 := ⟨q2085, q136, ⟨by decide +kernel, by decide +kernel, by decide +kernel⟩, Nat.le_of_ble_eq_true h1, Nat.le_of_ble_eq_true h2⟩

set_option maxHeartbeats 4000000 in
noncomputable def F_X5_aimAt (s : St) (p0 : Int32) : Option (Unit × St) := bnd (F_X5_aim s ((p0 / (5 : Int32)) + (1 : Int32)) ((p0 - p0 / (5 : Int32) * (5 : Int32)) - (2 : Int32))) fun _ s2 => some ((), s2)
set_option maxHeartbeats 4000000 in
theorem c_X5_aimAt {l : Launch} {E : EV} (hE : GE E) (hS : ∀ σ, eSk E σ → SkM σ) {s s' : St} {r : Unit} {p0 : Int32} (h : F_X5_aimAt  s p0 = some (r, s')) : CT l E yX5_aimAt cX5_aimAt 2 none 7 171 [vr (some 0), vi p0] s none s' := by
  refine CT.start hE (by decide) rfl [(0, vr (some 0)), (1, vi p0)] rfl (fun X hX B => ?_)
  skip
  have B : FX X E cX5_aimAt 2 none "RoseThrowModel" "aimAt" (sn s) (ss s) 7 171 := B
  unfold F_X5_aimAt at h
  refine r_aload_n (j := 0) B dX5_aimAt_0 rfl rfl ?_
  refine r_iload_n (j := 1) B dX5_aimAt_1 rfl rfl ?_
  refine r_iconst (v := 5) B dX5_aimAt_2 (by decide) ?_
  refine r_idiv B dX5_aimAt_3 (by decide) ?_
  refine r_iconst (v := 1) B dX5_aimAt_4 (by decide) ?_
  refine r_iadd B dX5_aimAt_5 ?_
  refine r_iload_n (j := 1) B dX5_aimAt_6 rfl rfl ?_
  refine r_iconst (v := 5) B dX5_aimAt_7 (by decide) ?_
  refine r_irem B dX5_aimAt_8 (by decide) ?_
  refine r_iconst (v := 2) B dX5_aimAt_9 (by decide) ?_
  refine r_isub B dX5_aimAt_10 ?_
  obtain ⟨r1, s2, hc3, h⟩ := bnd_e h
  refine r_callV0 (As := [vi ((p0 / (5 : Int32)) + (1 : Int32)), vi ((p0 - p0 / (5 : Int32) * (5 : Int32)) - (2 : Int32))]) (rest := []) B rfl rfl EX.same (c_X5_aim B.ge hS hc3) (cw_X5_aim rfl rfl) (fun z => RV.of 5 ((fun z => by rw [(hS _ z).1 0 (by decide)]; rfl) z) rfl rfl qs92) q2008 q2010 rfl dX5_aimAt_11 ?_
  exact r_vret B dX5_aimAt_14 h
set_option maxHeartbeats 4000000 in
theorem cw_X5_aimAt {X : CX} {fr lo : Nat} (h1 : Nat.ble (7 + 1) fr = true) (h2 : Nat.ble (21 + 171) lo = true) : CW X fr lo yX5_aimAt cX5_aimAt 2 none 7 171 1 := ⟨q2089, q136, ⟨by decide +kernel, by decide +kernel, by decide +kernel⟩, Nat.le_of_ble_eq_true h1, Nat.le_of_ble_eq_true h2⟩

set_option maxHeartbeats 4000000 in
noncomputable def F_X5_weigh (s : St) (p0 : Int32) (p1 : Int32) (p2 : Int64) (p3 : Int64) : Option (Unit × St) := if (p2 * (sl s 0 57)) ≤ ((sl s 0 56) * p3) then (some ((), s)) else (nam (setI s 0 54 p1) fun s2 => nam (setI s2 0 55 p0) fun s4 => nam (setL s4 0 56 p2) fun s6 => nam (setL s6 0 57 p3) fun s8 => some ((), s8))
set_option maxHeartbeats 4000000 in
theorem c_X5_weigh {l : Launch} {E : EV} (hE : GE E) (hS : ∀ σ, eSk E σ → SkM σ) {s s' : St} {r : Unit} {p0 : Int32} {p1 : Int32} {p2 : Int64} {p3 : Int64} (h : F_X5_weigh  s p0 p1 p2 p3 = some (r, s')) : CT l E yX5_weigh cX5_weigh 7 none 0 0 [vr (some 0), vi p0, vi p1, vl p2, vl p3] s none s' := by
  refine CT.start hE (by decide) rfl [(0, vr (some 0)), (1, vi p0), (2, vi p1), (3, vl p2), (5, vl p3)] rfl (fun X hX B => ?_)
  skip
  have B : FX X E cX5_weigh 7 none "RoseThrowModel" "weigh" (sn s) (ss s) 0 0 := B
  unfold F_X5_weigh at h
  refine r_lload_n (j := 3) B dX5_weigh_0 rfl rfl ?_
  refine r_aload_n (j := 0) B dX5_weigh_1 rfl rfl ?_
  refine g5 (k := 57) B (vl (sl s 0 57)) rfl (fun z => by rw [(hS _ z).1 0 (by decide)]; rfl) rfl q1574 rfl (fun _ => rfl) dX5_weigh_2 ?_
  refine r_lmul B dX5_weigh_5 ?_
  refine r_aload_n (j := 0) B dX5_weigh_6 rfl rfl ?_
  refine g5 (k := 56) B (vl (sl s 0 56)) rfl (fun z => by rw [(hS _ z).1 0 (by decide)]; rfl) rfl q1573 rfl (fun _ => rfl) dX5_weigh_7 ?_
  refine r_lload (j := 4) B dX5_weigh_10 rfl ?_
  refine r_lmul B dX5_weigh_12 ?_
  refine r_lcmp B dX5_weigh_13 ?_
  refine r_if_le (tgt := 38) B dX5_weigh_14 (by decide) (fun cn1 => ?_) (fun cn1 => ?_)
  · have h := ot (lc_le.mp cn1) h
    exact r_vret B dX5_weigh_38 h
  · have h := of (fun z => cn1 (lc_le.mpr z)) h
    refine r_aload_n (j := 0) B dX5_weigh_17 rfl rfl ?_
    refine r_iload_n (j := 2) B dX5_weigh_18 rfl rfl ?_
    obtain ⟨s2, e3, h⟩ := nam_e h
    refine pI5 (k := 54) B e3 rfl (fun z => by rw [(hS _ z).1 0 (by decide)]; rfl) rfl q1571 rfl rfl (fun _ _ _ => rfl) rfl dX5_weigh_19 ?_
    refine r_aload_n (j := 0) B dX5_weigh_22 rfl rfl ?_
    refine r_iload_n (j := 1) B dX5_weigh_23 rfl rfl ?_
    obtain ⟨s4, e5, h⟩ := nam_e h
    refine pI5 (k := 55) B e5 rfl (fun z => by rw [(hS _ z).1 0 (by decide)]; rfl) rfl q1572 rfl rfl (fun _ _ _ => rfl) rfl dX5_weigh_24 ?_
    refine r_aload_n (j := 0) B dX5_weigh_27 rfl rfl ?_
    refine r_lload_n (j := 3) B dX5_weigh_28 rfl rfl ?_
    obtain ⟨s6, e7, h⟩ := nam_e h
    refine pL5 (k := 56) B e7 rfl (fun z => by rw [(hS _ z).1 0 (by decide)]; rfl) rfl q1573 rfl rfl rfl dX5_weigh_29 ?_
    refine r_aload_n (j := 0) B dX5_weigh_32 rfl rfl ?_
    refine r_lload (j := 4) B dX5_weigh_33 rfl ?_
    obtain ⟨s8, e9, h⟩ := nam_e h
    refine pL5 (k := 57) B e9 rfl (fun z => by rw [(hS _ z).1 0 (by decide)]; rfl) rfl q1574 rfl rfl rfl dX5_weigh_35 ?_
    exact r_vret B dX5_weigh_38 h
set_option maxHeartbeats 4000000 in
theorem cw_X5_weigh {X : CX} {fr lo : Nat} (h1 : Nat.ble (0 + 1) fr = true) (h2 : Nat.ble (26 + 0) lo = true) : CW X fr lo yX5_weigh cX5_weigh 7 none 0 0 4 := ⟨q2093, q136, ⟨by decide +kernel, by decide +kernel, by decide +kernel⟩, Nat.le_of_ble_eq_true h1, Nat.le_of_ble_eq_true h2⟩

set_option maxHeartbeats 4000000 in
noncomputable def F_X5_tellThrow (s : St) (p0 : Int32) (p1 : Int32) : Option (Int64 × St) := if (2 : Int32) ≤ p1 then (bnd (F_X5_shorten s (sl s 0 56) (sl s 0 57)) fun _ s3 => if p1 = (2 : Int32) then (some ((sl s3 0 46), s3)) else (some ((sl s3 0 47), s3))) else (if p1 = 0 then (some (((((p0 / (5 : Int32)) + (1 : Int32))).toInt64), s)) else (some ((((p0 - p0 / (5 : Int32) * (5 : Int32))).toInt64), s)))
set_option maxHeartbeats 4000000 in
theorem c_X5_tellThrow {l : Launch} {E : EV} (hE : GE E) (hS : ∀ σ, eSk E σ → SkM σ) {s s' : St} {r : Int64} {p0 : Int32} {p1 : Int32} (h : F_X5_tellThrow  s p0 p1 = some (r, s')) : CT l E yX5_tellThrow cX5_tellThrow 3 (some .long) 1 30 [vr (some 0), vi p0, vi p1] s (some (vl r)) s' := by
  refine CT.start hE (by decide) rfl [(0, vr (some 0)), (1, vi p0), (2, vi p1)] rfl (fun X hX B => ?_)
  skip
  have B : FX X E cX5_tellThrow 3 (some .long) "RoseThrowModel" "tellThrow" (sn s) (ss s) 1 30 := B
  unfold F_X5_tellThrow at h
  refine r_iload_n (j := 2) B dX5_tellThrow_0 rfl rfl ?_
  refine r_iconst (v := 2) B dX5_tellThrow_1 (by decide) ?_
  refine r_ic_ge (tgt := 23) B dX5_tellThrow_2 (by decide) (fun cn1 => ?_) (fun cn1 => ?_)
  · have h := ot cn1 h
    refine r_aload_n (j := 0) B dX5_tellThrow_23 rfl rfl ?_
    refine r_aload_n (j := 0) B dX5_tellThrow_24 rfl rfl ?_
    refine g5 (k := 56) B (vl (sl s 0 56)) rfl (fun z => by rw [(hS _ z).1 0 (by decide)]; rfl) rfl q1573 rfl (fun _ => rfl) dX5_tellThrow_25 ?_
    refine r_aload_n (j := 0) B dX5_tellThrow_28 rfl rfl ?_
    refine g5 (k := 57) B (vl (sl s 0 57)) rfl (fun z => by rw [(hS _ z).1 0 (by decide)]; rfl) rfl q1574 rfl (fun _ => rfl) dX5_tellThrow_29 ?_
    obtain ⟨r2, s3, hc4, h⟩ := bnd_e h
    refine r_callV0 (As := [vl (sl s 0 56), vl (sl s 0 57)]) (rest := []) B rfl rfl EX.same (c_X5_shorten B.ge hS hc4) (cw_X5_shorten rfl rfl) (fun z => RV.of 5 ((fun z => by rw [(hS _ z).1 0 (by decide)]; rfl) z) rfl rfl qs96) q2024 q2026 rfl dX5_tellThrow_32 ?_
    refine r_iload_n (j := 2) B dX5_tellThrow_35 rfl rfl ?_
    refine r_iconst (v := 2) B dX5_tellThrow_36 (by decide) ?_
    refine r_ic_ne (tgt := 47) B dX5_tellThrow_37 (by decide) (fun cn5 => ?_) (fun cn5 => ?_)
    · have h := of cn5 h
      refine r_aload_n (j := 0) B dX5_tellThrow_47 rfl rfl ?_
      refine g5 (k := 47) B (vl (sl s3 0 47)) rfl (fun z => by rw [(hS _ z).1 0 (by decide)]; rfl) rfl q1564 rfl (fun _ => rfl) dX5_tellThrow_48 ?_
      exact r_lret B dX5_tellThrow_51 h
    · have h := ot cn5 h
      refine r_aload_n (j := 0) B dX5_tellThrow_40 rfl rfl ?_
      refine g5 (k := 46) B (vl (sl s3 0 46)) rfl (fun z => by rw [(hS _ z).1 0 (by decide)]; rfl) rfl q1563 rfl (fun _ => rfl) dX5_tellThrow_41 ?_
      refine r_goto (tgt := 51) B dX5_tellThrow_44 (by decide) ?_
      exact r_lret B dX5_tellThrow_51 h
  · have h := of cn1 h
    refine r_iload_n (j := 2) B dX5_tellThrow_5 rfl rfl ?_
    refine r_if_ne (tgt := 18) B dX5_tellThrow_6 (by decide) (fun cn6 => ?_) (fun cn6 => ?_)
    · have h := of cn6 h
      refine r_iload_n (j := 1) B dX5_tellThrow_18 rfl rfl ?_
      refine r_iconst (v := 5) B dX5_tellThrow_19 (by decide) ?_
      refine r_irem B dX5_tellThrow_20 (by decide) ?_
      refine r_i2l B dX5_tellThrow_21 ?_
      exact r_lret B dX5_tellThrow_22 h
    · have h := ot cn6 h
      refine r_iload_n (j := 1) B dX5_tellThrow_9 rfl rfl ?_
      refine r_iconst (v := 5) B dX5_tellThrow_10 (by decide) ?_
      refine r_idiv B dX5_tellThrow_11 (by decide) ?_
      refine r_iconst (v := 1) B dX5_tellThrow_12 (by decide) ?_
      refine r_iadd B dX5_tellThrow_13 ?_
      refine r_i2l B dX5_tellThrow_14 ?_
      refine r_goto (tgt := 22) B dX5_tellThrow_15 (by decide) ?_
      exact r_lret B dX5_tellThrow_22 h
set_option maxHeartbeats 4000000 in
theorem cw_X5_tellThrow {X : CX} {fr lo : Nat} (h1 : Nat.ble (1 + 1) fr = true) (h2 : Nat.ble (22 + 30) lo = true) : CW X fr lo yX5_tellThrow cX5_tellThrow 3 (some .long) 1 30 2 := ⟨q2097, q136, ⟨by decide +kernel, by decide +kernel, by decide +kernel⟩, Nat.le_of_ble_eq_true h1, Nat.le_of_ble_eq_true h2⟩

set_option maxHeartbeats 4000000 in
noncomputable def F_X5_friend_35 : Nat → St → Int32 → Int32 → Int32 → Option (Int64 × St)
  | 0 => fun _ _ _ _ => none
  | n + 1 => fun s x1 x2 x3 => if (25 : Int32) ≤ x3 then (bnd (F_X5_tellThrow s (si s 0 54) x2) fun r2 s3 => some (r2, s3)) else (bnd (F_X5_aimAt s x3) fun _ s6 => bnd (F_X5_findAll s6) fun _ s9 => gd (inb x1 7) <| bnd (F_X5_weigh s9 x3 x3 (((si s9 26 x1.toNatClampNeg)).toInt64) ((((60 : Int32) * (si s9 0 45))).toInt64)) fun _ s13 => F_X5_friend_35  n s13 x1 x2 (x3 + (1)))
set_option maxHeartbeats 4000000 in
theorem w_X5_friend_35 {X : CX} {E : EV} {a0 s' : St} {r : Int64} (B : FX X E cX5_friend 4 (some .long) "RoseThrowModel" "friend" (sn a0) (ss a0) 9 211) (hS : ∀ σ, eSk E σ → SkM σ) : ∀ (n : Nat) (s : St) (x1 : Int32) (x2 : Int32) (x3 : Int32), F_X5_friend_35   n s x1 x2 x3 = some (r, s') → J X E (sn a0) (ss a0) 4 (QR X E a0 (some (vl r)) s') s 35 [(0, vr (some 0)), (1, vi x1), (2, vi x2), (3, vi x3)] [] := by
  intro n
  induction n with
  | zero => intro s x1 x2 x3 h; exact absurd (show (none : Option (Int64 × St)) = _ from h) (by simp)
  | succ n ih =>
    intro s x1 x2 x3 h
    rw [F_X5_friend_35] at h
    refine r_iload_n (j := 3) B dX5_friend_35 rfl rfl ?_
    refine r_bipush (v := 25) B dX5_friend_36 (by decide) ?_
    refine r_ic_ge (tgt := 77) B dX5_friend_38 (by decide) (fun cn1 => ?_) (fun cn1 => ?_)
    · have h := ot cn1 h
      refine r_aload_n (j := 0) B dX5_friend_77 rfl rfl ?_
      refine r_aload_n (j := 0) B dX5_friend_78 rfl rfl ?_
      refine g5 (k := 54) B (vi (si s 0 54)) rfl (fun z => by rw [(hS _ z).1 0 (by decide)]; rfl) rfl q1571 rfl (fun _ => rfl) dX5_friend_79 ?_
      refine r_iload_n (j := 2) B dX5_friend_82 rfl rfl ?_
      obtain ⟨r2, s3, hc4, h⟩ := bnd_e h
      refine r_callVv (As := [vi (si s 0 54), vi x2]) (rest := []) B rfl rfl EX.same (c_X5_tellThrow B.ge hS hc4) (cw_X5_tellThrow rfl rfl) (fun z => RV.of 5 ((fun z => by rw [(hS _ z).1 0 (by decide)]; rfl) z) rfl rfl qs108) q2094 q2096 rfl dX5_friend_83 ?_
      exact r_lret B dX5_friend_86 h
    · have h := of cn1 h
      refine r_aload_n (j := 0) B dX5_friend_41 rfl rfl ?_
      refine r_iload_n (j := 3) B dX5_friend_42 rfl rfl ?_
      obtain ⟨r5, s6, hc7, h⟩ := bnd_e h
      refine r_callV0 (As := [vi x3]) (rest := []) B rfl rfl EX.same (c_X5_aimAt B.ge hS hc7) (cw_X5_aimAt rfl rfl) (fun z => RV.of 5 ((fun z => by rw [(hS _ z).1 0 (by decide)]; rfl) z) rfl rfl qs106) q2086 q2088 rfl dX5_friend_43 ?_
      refine r_aload_n (j := 0) B dX5_friend_46 rfl rfl ?_
      obtain ⟨r8, s9, hc10, h⟩ := bnd_e h
      refine r_callV0 (As := []) (rest := []) B rfl rfl EX.same (c_X5_findAll B.ge hS hc10) (cw_X5_findAll rfl rfl) (fun z => RV.of 5 ((fun z => by rw [(hS _ z).1 0 (by decide)]; rfl) z) rfl rfl qs97) q2032 q2034 rfl dX5_friend_47 ?_
      refine r_aload_n (j := 0) B dX5_friend_50 rfl rfl ?_
      refine r_iload_n (j := 3) B dX5_friend_51 rfl rfl ?_
      refine r_iload_n (j := 3) B dX5_friend_52 rfl rfl ?_
      refine r_aload_n (j := 0) B dX5_friend_53 rfl rfl ?_
      refine g5 (k := 51) B (vr (some 26)) rfl (fun z => by rw [(hS _ z).1 0 (by decide)]; rfl) rfl q1568 rfl (fun z => by rw [(hS _ z).2 _ (List.mem_of_getElem? (i := 25) rfl)]; rfl) dX5_friend_54 ?_
      refine r_iload_n (j := 1) B dX5_friend_57 rfl rfl ?_
      obtain ⟨hg11, h⟩ := gd_e h
      refine r_iald B rfl (fun z => (hS _ z).1 26 (by decide)) hg11 dX5_friend_58 ?_
      refine r_i2l B dX5_friend_59 ?_
      refine r_bipush (v := 60) B dX5_friend_60 (by decide) ?_
      refine r_aload_n (j := 0) B dX5_friend_62 rfl rfl ?_
      refine g5 (k := 45) B (vi (si s9 0 45)) rfl (fun z => by rw [(hS _ z).1 0 (by decide)]; rfl) rfl q1562 rfl (fun _ => rfl) dX5_friend_63 ?_
      refine r_imul B dX5_friend_66 ?_
      refine r_i2l B dX5_friend_67 ?_
      obtain ⟨r12, s13, hc14, h⟩ := bnd_e h
      refine r_callV0 (As := [vi x3, vi x3, vl (((si s9 26 x1.toNatClampNeg)).toInt64), vl ((((60 : Int32) * (si s9 0 45))).toInt64)]) (rest := []) B rfl rfl EX.same (c_X5_weigh B.ge hS hc14) (cw_X5_weigh rfl rfl) (fun z => RV.of 5 ((fun z => by rw [(hS _ z).1 0 (by decide)]; rfl) z) rfl rfl qs107) q2090 q2092 rfl dX5_friend_68 ?_
      refine r_iinc (j := 3) (v := (x3 + (1))) (L' := [(0, vr (some 0)), (1, vi x1), (2, vi x2), (3, vi (x3 + (1)))]) B dX5_friend_71 rfl rfl (by decide) rfl rfl rfl ?_
      refine r_goto (tgt := 35) B dX5_friend_74 (by decide) ?_
      exact ih s13 x1 x2 (x3 + (1)) h
set_option maxHeartbeats 4000000 in
noncomputable def F_X5_friend (s : St) (p0 : Int32) (p1 : Int32) : Option (Int64 × St) := nam (setI s 0 0 (0 : Int32)) fun s1 => bnd (F_X5_isCatcher s1 p0) fun r3 s4 => if r3 = 0 then (some ((-1 : Int64), s4)) else (bnd (F_X5_in s4 ((p1).toInt64) (0 : Int64) (3 : Int64)) fun r7 s8 => if r7 = 0 then (some ((-1 : Int64), s8)) else (bnd (F_X5_beginBest s8) fun _ s12 => F_X5_friend_35 FU s12 p0 p1 (0 : Int32)))
set_option maxHeartbeats 4000000 in
theorem c_X5_friend {l : Launch} {E : EV} (hE : GE E) (hS : ∀ σ, eSk E σ → SkM σ) {s s' : St} {r : Int64} {p0 : Int32} {p1 : Int32} (h : F_X5_friend  s p0 p1 = some (r, s')) : CT l E yX5_friend cX5_friend 4 (some .long) 9 211 [vr (some 0), vi p0, vi p1] s (some (vl r)) s' := by
  refine CT.start hE (by decide) rfl [(0, vr (some 0)), (1, vi p0), (2, vi p1)] rfl (fun X hX B => ?_)
  skip
  have B : FX X E cX5_friend 4 (some .long) "RoseThrowModel" "friend" (sn s) (ss s) 9 211 := B
  unfold F_X5_friend at h
  refine r_aload_n (j := 0) B dX5_friend_0 rfl rfl ?_
  refine r_iconst (v := 0) B dX5_friend_1 (by decide) ?_
  obtain ⟨s1, e2, h⟩ := nam_e h
  refine pI5 (k := 0) B e2 rfl (fun z => by rw [(hS _ z).1 0 (by decide)]; rfl) rfl q1517 rfl rfl (fun _ _ _ => rfl) rfl dX5_friend_2 ?_
  refine r_aload_n (j := 0) B dX5_friend_5 rfl rfl ?_
  refine r_iload_n (j := 1) B dX5_friend_6 rfl rfl ?_
  obtain ⟨r3, s4, hc5, h⟩ := bnd_e h
  refine r_callVv (As := [vi p0]) (rest := []) B rfl rfl EX.same (c_X5_isCatcher B.ge hS hc5) (cw_X5_isCatcher rfl rfl) (fun z => RV.of 5 ((fun z => by rw [(hS _ z).1 0 (by decide)]; rfl) z) rfl rfl qs60) q1799 q1801 rfl dX5_friend_7 ?_
  refine r_if_eq (tgt := 25) B dX5_friend_10 (by decide) (fun cn6 => ?_) (fun cn6 => ?_)
  · have h := ot cn6 h
    refine r_ldc2 B dX5_friend_25 q1782 ?_
    exact r_lret B dX5_friend_28 h
  · have h := of cn6 h
    refine r_iload_n (j := 2) B dX5_friend_13 rfl rfl ?_
    refine r_i2l B dX5_friend_14 ?_
    refine r_lconst (v := 0) B dX5_friend_15 (by decide) ?_
    refine r_ldc2 B dX5_friend_16 q1759 ?_
    obtain ⟨r7, s8, hc9, h⟩ := bnd_e h
    refine r_callSv (As := [vl ((p1).toInt64), vl (0 : Int64), vl (3 : Int64)]) (rest := []) B rfl EX.same (c_X5_in B.ge hS hc9) (cw_X5_in rfl rfl) q1740 q1741 rfl dX5_friend_19 ?_
    refine r_if_ne (tgt := 29) B dX5_friend_22 (by decide) (fun cn10 => ?_) (fun cn10 => ?_)
    · have h := of cn10 h
      refine r_aload_n (j := 0) B dX5_friend_29 rfl rfl ?_
      obtain ⟨r11, s12, hc13, h⟩ := bnd_e h
      refine r_callV0 (As := []) (rest := []) B rfl rfl EX.same (c_X5_beginBest B.ge hS hc13) (cw_X5_beginBest rfl rfl) (fun z => RV.of 5 ((fun z => by rw [(hS _ z).1 0 (by decide)]; rfl) z) rfl rfl qs105) q2082 q2084 rfl dX5_friend_30 ?_
      refine r_iconst (v := 0) B dX5_friend_33 (by decide) ?_
      refine r_istore_n (L' := [(0, vr (some 0)), (1, vi p0), (2, vi p1), (3, vi (0 : Int32))]) B dX5_friend_34 rfl (by decide) rfl rfl rfl ?_
      exact w_X5_friend_35 B hS FU s12 p0 p1 (0 : Int32) h
    · have h := ot cn10 h
      refine r_ldc2 B dX5_friend_25 q1782 ?_
      exact r_lret B dX5_friend_28 h
set_option maxHeartbeats 4000000 in
theorem cw_X5_friend {X : CX} {fr lo : Nat} (h1 : Nat.ble (9 + 1) fr = true) (h2 : Nat.ble (23 + 211) lo = true) : CW X fr lo yX5_friend cX5_friend 4 (some .long) 9 211 2 := ⟨q2081, q136, ⟨by decide +kernel, by decide +kernel, by decide +kernel⟩, Nat.le_of_ble_eq_true h1, Nat.le_of_ble_eq_true h2⟩

set_option maxHeartbeats 4000000 in
noncomputable def F_X5_stepAll_159 (k2 : St → Int32 → Int32 → Option (Unit × St)) (k47 : St → Int32 → Int32 → Int32 → Int32 → Int32 → Int32 → Option (Unit × St)) (s : St) (x1 : Int32) (x2 : Int32) (x3 : Int32) (x5 : Int32) (x6 : Int32) (x8 : Int32) (z0 : Int32) : Option (Unit × St) := if x8 ≤ x5 then (k47 s x1 x2 x3 z0 x5 (x6 + (1))) else (k47 s x1 x2 x3 z0 x8 (x6 + (1)))
set_option maxHeartbeats 4000000 in
theorem w_X5_stepAll_159 {X : CX} {E : EV} {a0 s' : St} {r : Unit} (B : FX X E cX5_stepAll 9 none "RoseThrowModel" "stepAll" (sn a0) (ss a0) 10 234) (hS : ∀ σ, eSk E σ → SkM σ) (k2 : St → Int32 → Int32 → Option (Unit × St)) (k47 : St → Int32 → Int32 → Int32 → Int32 → Int32 → Int32 → Option (Unit × St)) (hk2 : ∀ (s : St) (x1 : Int32) (x2 : Int32), k2 s x1 x2 = some (r, s') → J X E (sn a0) (ss a0) 9 (QR X E a0 none s') s 2 [(0, vr (some 0)), (1, vi x1), (2, vi x2)] []) (hk47 : ∀ (s : St) (x1 : Int32) (x2 : Int32) (x3 : Int32) (x4 : Int32) (x5 : Int32) (x6 : Int32), k47 s x1 x2 x3 x4 x5 x6 = some (r, s') → J X E (sn a0) (ss a0) 9 (QR X E a0 none s') s 47 [(0, vr (some 0)), (1, vi x1), (2, vi x2), (3, vi x3), (4, vi x4), (5, vi x5), (6, vi x6)] []) (s : St) (x1 : Int32) (x2 : Int32) (x3 : Int32) (x5 : Int32) (x6 : Int32) (x8 : Int32) (z0 : Int32) (h : F_X5_stepAll_159  k2 k47 s x1 x2 x3 x5 x6 x8 z0 = some (r, s')) : J X E (sn a0) (ss a0) 9 (QR X E a0 none s') s 159 [(0, vr (some 0)), (1, vi x1), (2, vi x2), (3, vi x3), (5, vi x5), (6, vi x6), (8, vi x8)] [vi z0] := by
  unfold F_X5_stepAll_159 at h
  refine r_istore (L' := [(0, vr (some 0)), (1, vi x1), (2, vi x2), (3, vi x3), (4, vi z0), (5, vi x5), (6, vi x6), (8, vi x8)]) B dX5_stepAll_159 (by decide) rfl rfl rfl ?_
  refine r_iload (j := 7) B dX5_stepAll_161 rfl ?_
  refine r_iload (j := 5) B dX5_stepAll_163 rfl ?_
  refine r_ic_le (tgt := 173) B dX5_stepAll_165 (by decide) (fun cn1 => ?_) (fun cn1 => ?_)
  · have h := ot cn1 h
    refine r_iload (j := 5) B dX5_stepAll_173 rfl ?_
    refine r_istore (L' := [(0, vr (some 0)), (1, vi x1), (2, vi x2), (3, vi x3), (4, vi z0), (5, vi x5), (6, vi x6), (8, vi x8)]) B dX5_stepAll_175 (by decide) rfl rfl rfl ?_
    refine r_iinc (j := 6) (v := (x6 + (1))) (L' := [(0, vr (some 0)), (1, vi x1), (2, vi x2), (3, vi x3), (4, vi z0), (5, vi x5), (6, vi (x6 + (1))), (8, vi x8)]) B dX5_stepAll_177 rfl rfl (by decide) rfl rfl rfl ?_
    refine r_goto (tgt := 47) B dX5_stepAll_180 (by decide) ?_
    refine r_pick [0, 1, 2, 3, 4, 5, 6] (L' := [(0, vr (some 0)), (1, vi x1), (2, vi x2), (3, vi x3), (4, vi z0), (5, vi x5), (6, vi (x6 + (1)))]) rfl ?_
    exact hk47 s x1 x2 x3 z0 x5 (x6 + (1)) h
  · have h := of cn1 h
    refine r_iload (j := 7) B dX5_stepAll_168 rfl ?_
    refine r_goto (tgt := 175) B dX5_stepAll_170 (by decide) ?_
    refine r_istore (L' := [(0, vr (some 0)), (1, vi x1), (2, vi x2), (3, vi x3), (4, vi z0), (5, vi x8), (6, vi x6), (8, vi x8)]) B dX5_stepAll_175 (by decide) rfl rfl rfl ?_
    refine r_iinc (j := 6) (v := (x6 + (1))) (L' := [(0, vr (some 0)), (1, vi x1), (2, vi x2), (3, vi x3), (4, vi z0), (5, vi x8), (6, vi (x6 + (1))), (8, vi x8)]) B dX5_stepAll_177 rfl rfl (by decide) rfl rfl rfl ?_
    refine r_goto (tgt := 47) B dX5_stepAll_180 (by decide) ?_
    refine r_pick [0, 1, 2, 3, 4, 5, 6] (L' := [(0, vr (some 0)), (1, vi x1), (2, vi x2), (3, vi x3), (4, vi z0), (5, vi x8), (6, vi (x6 + (1)))]) rfl ?_
    exact hk47 s x1 x2 x3 z0 x8 (x6 + (1)) h
set_option maxHeartbeats 4000000 in
noncomputable def F_X5_stepAll_104 (k2 : St → Int32 → Int32 → Option (Unit × St)) (k47 : St → Int32 → Int32 → Int32 → Int32 → Int32 → Int32 → Option (Unit × St)) (s : St) (x1 : Int32) (x2 : Int32) (x3 : Int32) (x4 : Int32) (x5 : Int32) (x6 : Int32) (z0 : Int32) (z1 : Int32) (z2 : Int32) : Option (Unit × St) := bnd (F_X5_cellAt s z2 (z1 + z0)) fun r1 s2 => if r1 = (36 : Int32) then (k47 s2 x1 x2 x3 x4 x5 (x6 + (1))) else (bnd (F_X5_isFree s2 r1) fun r5 s6 => if r5 = 0 then (k47 s6 x1 x2 x3 x4 x5 (x6 + (1))) else (bnd (F_X5_isBarred s6 x2 r1) fun r9 s10 => if r9 = 0 then (bnd (F_X5_partsAt s10 x2 r1) fun r13 s14 => if r13 ≤ x5 then (F_X5_stepAll_159 k2 k47 s14 x1 x2 x3 x5 x6 r13 x4) else (F_X5_stepAll_159 k2 k47 s14 x1 x2 x3 x5 x6 r13 r1)) else (k47 s10 x1 x2 x3 x4 x5 (x6 + (1)))))
set_option maxHeartbeats 4000000 in
theorem w_X5_stepAll_104 {X : CX} {E : EV} {a0 s' : St} {r : Unit} (B : FX X E cX5_stepAll 9 none "RoseThrowModel" "stepAll" (sn a0) (ss a0) 10 234) (hS : ∀ σ, eSk E σ → SkM σ) (k2 : St → Int32 → Int32 → Option (Unit × St)) (k47 : St → Int32 → Int32 → Int32 → Int32 → Int32 → Int32 → Option (Unit × St)) (hk2 : ∀ (s : St) (x1 : Int32) (x2 : Int32), k2 s x1 x2 = some (r, s') → J X E (sn a0) (ss a0) 9 (QR X E a0 none s') s 2 [(0, vr (some 0)), (1, vi x1), (2, vi x2)] []) (hk47 : ∀ (s : St) (x1 : Int32) (x2 : Int32) (x3 : Int32) (x4 : Int32) (x5 : Int32) (x6 : Int32), k47 s x1 x2 x3 x4 x5 x6 = some (r, s') → J X E (sn a0) (ss a0) 9 (QR X E a0 none s') s 47 [(0, vr (some 0)), (1, vi x1), (2, vi x2), (3, vi x3), (4, vi x4), (5, vi x5), (6, vi x6)] []) (s : St) (x1 : Int32) (x2 : Int32) (x3 : Int32) (x4 : Int32) (x5 : Int32) (x6 : Int32) (z0 : Int32) (z1 : Int32) (z2 : Int32) (h : F_X5_stepAll_104  k2 k47 s x1 x2 x3 x4 x5 x6 z0 z1 z2 = some (r, s')) : J X E (sn a0) (ss a0) 9 (QR X E a0 none s') s 104 [(0, vr (some 0)), (1, vi x1), (2, vi x2), (3, vi x3), (4, vi x4), (5, vi x5), (6, vi x6)] [vi z0, vi z1, vi z2, vr (some 0)] := by
  unfold F_X5_stepAll_104 at h
  refine r_iadd B dX5_stepAll_104 ?_
  obtain ⟨r1, s2, hc3, h⟩ := bnd_e h
  refine r_callVv (As := [vi z2, vi (z1 + z0)]) (rest := []) B rfl rfl EX.same (c_X5_cellAt B.ge hS hc3) (cw_X5_cellAt rfl rfl) (fun z => RV.of 5 ((fun z => by rw [(hS _ z).1 0 (by decide)]; rfl) z) rfl rfl qs94) q2016 q2018 rfl dX5_stepAll_105 ?_
  refine r_istore (L' := [(0, vr (some 0)), (1, vi x1), (2, vi x2), (3, vi x3), (4, vi x4), (5, vi x5), (6, vi x6), (7, vi r1)]) B dX5_stepAll_108 (by decide) rfl rfl rfl ?_
  refine r_iload (j := 7) B dX5_stepAll_110 rfl ?_
  refine r_bipush (v := 36) B dX5_stepAll_112 (by decide) ?_
  refine r_ic_eq (tgt := 177) B dX5_stepAll_114 (by decide) (fun cn4 => ?_) (fun cn4 => ?_)
  · have h := ot cn4 h
    refine r_iinc (j := 6) (v := (x6 + (1))) (L' := [(0, vr (some 0)), (1, vi x1), (2, vi x2), (3, vi x3), (4, vi x4), (5, vi x5), (6, vi (x6 + (1))), (7, vi r1)]) B dX5_stepAll_177 rfl rfl (by decide) rfl rfl rfl ?_
    refine r_goto (tgt := 47) B dX5_stepAll_180 (by decide) ?_
    refine r_pick [0, 1, 2, 3, 4, 5, 6] (L' := [(0, vr (some 0)), (1, vi x1), (2, vi x2), (3, vi x3), (4, vi x4), (5, vi x5), (6, vi (x6 + (1)))]) rfl ?_
    exact hk47 s2 x1 x2 x3 x4 x5 (x6 + (1)) h
  · have h := of cn4 h
    refine r_aload_n (j := 0) B dX5_stepAll_117 rfl rfl ?_
    refine r_iload (j := 7) B dX5_stepAll_118 rfl ?_
    obtain ⟨r5, s6, hc7, h⟩ := bnd_e h
    refine r_callVv (As := [vi r1]) (rest := []) B rfl rfl EX.same (c_X5_isFree B.ge hS hc7) (cw_X5_isFree rfl rfl) (fun z => RV.of 5 ((fun z => by rw [(hS _ z).1 0 (by decide)]; rfl) z) rfl rfl qs51) q1762 q1764 rfl dX5_stepAll_120 ?_
    refine r_if_eq (tgt := 177) B dX5_stepAll_123 (by decide) (fun cn8 => ?_) (fun cn8 => ?_)
    · have h := ot cn8 h
      refine r_iinc (j := 6) (v := (x6 + (1))) (L' := [(0, vr (some 0)), (1, vi x1), (2, vi x2), (3, vi x3), (4, vi x4), (5, vi x5), (6, vi (x6 + (1))), (7, vi r1)]) B dX5_stepAll_177 rfl rfl (by decide) rfl rfl rfl ?_
      refine r_goto (tgt := 47) B dX5_stepAll_180 (by decide) ?_
      refine r_pick [0, 1, 2, 3, 4, 5, 6] (L' := [(0, vr (some 0)), (1, vi x1), (2, vi x2), (3, vi x3), (4, vi x4), (5, vi x5), (6, vi (x6 + (1)))]) rfl ?_
      exact hk47 s6 x1 x2 x3 x4 x5 (x6 + (1)) h
    · have h := of cn8 h
      refine r_aload_n (j := 0) B dX5_stepAll_126 rfl rfl ?_
      refine r_iload_n (j := 2) B dX5_stepAll_127 rfl rfl ?_
      refine r_iload (j := 7) B dX5_stepAll_128 rfl ?_
      obtain ⟨r9, s10, hc11, h⟩ := bnd_e h
      refine r_callVv (As := [vi x2, vi r1]) (rest := []) B rfl rfl EX.same (c_X5_isBarred B.ge hS hc11) (cw_X5_isBarred rfl rfl) (fun z => RV.of 5 ((fun z => by rw [(hS _ z).1 0 (by decide)]; rfl) z) rfl rfl qs90) q1996 q1998 rfl dX5_stepAll_130 ?_
      refine r_if_ne (tgt := 177) B dX5_stepAll_133 (by decide) (fun cn12 => ?_) (fun cn12 => ?_)
      · have h := of cn12 h
        refine r_iinc (j := 6) (v := (x6 + (1))) (L' := [(0, vr (some 0)), (1, vi x1), (2, vi x2), (3, vi x3), (4, vi x4), (5, vi x5), (6, vi (x6 + (1))), (7, vi r1)]) B dX5_stepAll_177 rfl rfl (by decide) rfl rfl rfl ?_
        refine r_goto (tgt := 47) B dX5_stepAll_180 (by decide) ?_
        refine r_pick [0, 1, 2, 3, 4, 5, 6] (L' := [(0, vr (some 0)), (1, vi x1), (2, vi x2), (3, vi x3), (4, vi x4), (5, vi x5), (6, vi (x6 + (1)))]) rfl ?_
        exact hk47 s10 x1 x2 x3 x4 x5 (x6 + (1)) h
      · have h := ot cn12 h
        refine r_aload_n (j := 0) B dX5_stepAll_136 rfl rfl ?_
        refine r_iload_n (j := 2) B dX5_stepAll_137 rfl rfl ?_
        refine r_iload (j := 7) B dX5_stepAll_138 rfl ?_
        obtain ⟨r13, s14, hc15, h⟩ := bnd_e h
        refine r_callVv (As := [vi x2, vi r1]) (rest := []) B rfl rfl EX.same (c_X5_partsAt B.ge hS hc15) (cw_X5_partsAt rfl rfl) (fun z => RV.of 5 ((fun z => by rw [(hS _ z).1 0 (by decide)]; rfl) z) rfl rfl qs102) q2062 q2064 rfl dX5_stepAll_140 ?_
        refine r_istore (L' := [(0, vr (some 0)), (1, vi x1), (2, vi x2), (3, vi x3), (4, vi x4), (5, vi x5), (6, vi x6), (7, vi r1), (8, vi r13)]) B dX5_stepAll_143 (by decide) rfl rfl rfl ?_
        refine r_iload (j := 8) B dX5_stepAll_145 rfl ?_
        refine r_iload (j := 5) B dX5_stepAll_147 rfl ?_
        refine r_ic_le (tgt := 157) B dX5_stepAll_149 (by decide) (fun cn16 => ?_) (fun cn16 => ?_)
        · have h := ot cn16 h
          refine r_iload (j := 4) B dX5_stepAll_157 rfl ?_
          refine r_pick [0, 1, 2, 3, 5, 6, 8] (L' := [(0, vr (some 0)), (1, vi x1), (2, vi x2), (3, vi x3), (5, vi x5), (6, vi x6), (8, vi r13)]) rfl ?_
          exact w_X5_stepAll_159 B hS k2 k47 hk2 hk47 s14 x1 x2 x3 x5 x6 r13 x4 h
        · have h := of cn16 h
          refine r_iload (j := 7) B dX5_stepAll_152 rfl ?_
          refine r_goto (tgt := 159) B dX5_stepAll_154 (by decide) ?_
          refine r_pick [0, 1, 2, 3, 5, 6, 8] (L' := [(0, vr (some 0)), (1, vi x1), (2, vi x2), (3, vi x3), (5, vi x5), (6, vi x6), (8, vi r13)]) rfl ?_
          exact w_X5_stepAll_159 B hS k2 k47 hk2 hk47 s14 x1 x2 x3 x5 x6 r13 r1 h
set_option maxHeartbeats 4000000 in
noncomputable def F_X5_stepAll_79 (k2 : St → Int32 → Int32 → Option (Unit × St)) (k47 : St → Int32 → Int32 → Int32 → Int32 → Int32 → Int32 → Option (Unit × St)) (s : St) (x1 : Int32) (x2 : Int32) (x3 : Int32) (x4 : Int32) (x5 : Int32) (x6 : Int32) (z0 : Int32) (z1 : Int32) : Option (Unit × St) := if x6 = (2 : Int32) then (F_X5_stepAll_104 k2 k47 s x1 x2 x3 x4 x5 x6 (1 : Int32) (x3 / (6 : Int32)) (z1 + z0)) else (if x6 = 0 then (F_X5_stepAll_104 k2 k47 s x1 x2 x3 x4 x5 x6 (-1 : Int32) (x3 / (6 : Int32)) (z1 + z0)) else (F_X5_stepAll_104 k2 k47 s x1 x2 x3 x4 x5 x6 (0 : Int32) (x3 / (6 : Int32)) (z1 + z0)))
set_option maxHeartbeats 4000000 in
theorem w_X5_stepAll_79 {X : CX} {E : EV} {a0 s' : St} {r : Unit} (B : FX X E cX5_stepAll 9 none "RoseThrowModel" "stepAll" (sn a0) (ss a0) 10 234) (hS : ∀ σ, eSk E σ → SkM σ) (k2 : St → Int32 → Int32 → Option (Unit × St)) (k47 : St → Int32 → Int32 → Int32 → Int32 → Int32 → Int32 → Option (Unit × St)) (hk2 : ∀ (s : St) (x1 : Int32) (x2 : Int32), k2 s x1 x2 = some (r, s') → J X E (sn a0) (ss a0) 9 (QR X E a0 none s') s 2 [(0, vr (some 0)), (1, vi x1), (2, vi x2)] []) (hk47 : ∀ (s : St) (x1 : Int32) (x2 : Int32) (x3 : Int32) (x4 : Int32) (x5 : Int32) (x6 : Int32), k47 s x1 x2 x3 x4 x5 x6 = some (r, s') → J X E (sn a0) (ss a0) 9 (QR X E a0 none s') s 47 [(0, vr (some 0)), (1, vi x1), (2, vi x2), (3, vi x3), (4, vi x4), (5, vi x5), (6, vi x6)] []) (s : St) (x1 : Int32) (x2 : Int32) (x3 : Int32) (x4 : Int32) (x5 : Int32) (x6 : Int32) (z0 : Int32) (z1 : Int32) (h : F_X5_stepAll_79  k2 k47 s x1 x2 x3 x4 x5 x6 z0 z1 = some (r, s')) : J X E (sn a0) (ss a0) 9 (QR X E a0 none s') s 79 [(0, vr (some 0)), (1, vi x1), (2, vi x2), (3, vi x3), (4, vi x4), (5, vi x5), (6, vi x6)] [vi z0, vi z1, vr (some 0)] := by
  unfold F_X5_stepAll_79 at h
  refine r_iadd B dX5_stepAll_79 ?_
  refine r_iload_n (j := 3) B dX5_stepAll_80 rfl rfl ?_
  refine r_bipush (v := 6) B dX5_stepAll_81 (by decide) ?_
  refine r_idiv B dX5_stepAll_83 (by decide) ?_
  refine r_iload (j := 6) B dX5_stepAll_84 rfl ?_
  refine r_iconst (v := 2) B dX5_stepAll_86 (by decide) ?_
  refine r_ic_ne (tgt := 94) B dX5_stepAll_87 (by decide) (fun cn1 => ?_) (fun cn1 => ?_)
  · have h := of cn1 h
    refine r_iload (j := 6) B dX5_stepAll_94 rfl ?_
    refine r_if_ne (tgt := 103) B dX5_stepAll_96 (by decide) (fun cn2 => ?_) (fun cn2 => ?_)
    · have h := of cn2 h
      refine r_iconst (v := 0) B dX5_stepAll_103 (by decide) ?_
      exact w_X5_stepAll_104 B hS k2 k47 hk2 hk47 s x1 x2 x3 x4 x5 x6 (0 : Int32) (x3 / (6 : Int32)) (z1 + z0) h
    · have h := ot cn2 h
      refine r_iconst (v := -1) B dX5_stepAll_99 (by decide) ?_
      refine r_goto (tgt := 104) B dX5_stepAll_100 (by decide) ?_
      exact w_X5_stepAll_104 B hS k2 k47 hk2 hk47 s x1 x2 x3 x4 x5 x6 (-1 : Int32) (x3 / (6 : Int32)) (z1 + z0) h
  · have h := ot cn1 h
    refine r_iconst (v := 1) B dX5_stepAll_90 (by decide) ?_
    refine r_goto (tgt := 104) B dX5_stepAll_91 (by decide) ?_
    exact w_X5_stepAll_104 B hS k2 k47 hk2 hk47 s x1 x2 x3 x4 x5 x6 (1 : Int32) (x3 / (6 : Int32)) (z1 + z0) h
set_option maxHeartbeats 4000000 in
noncomputable def F_X5_stepAll_47 (k2 : St → Int32 → Int32 → Option (Unit × St)) : Nat → St → Int32 → Int32 → Int32 → Int32 → Int32 → Int32 → Option (Unit × St)
  | 0 => fun _ _ _ _ _ _ _ => none
  | n + 1 => fun s x1 x2 x3 x4 x5 x6 => if (4 : Int32) ≤ x6 then (bnd (F_X5_setCell s x2 x4) fun _ s3 => k2 s3 x1 (x2 + (1))) else (if x6 = (1 : Int32) then (F_X5_stepAll_79 k2 (F_X5_stepAll_47 k2 n) s x1 x2 x3 x4 x5 x6 (1 : Int32) (x3 - x3 / (6 : Int32) * (6 : Int32))) else (if x6 = (3 : Int32) then (F_X5_stepAll_79 k2 (F_X5_stepAll_47 k2 n) s x1 x2 x3 x4 x5 x6 (-1 : Int32) (x3 - x3 / (6 : Int32) * (6 : Int32))) else (F_X5_stepAll_79 k2 (F_X5_stepAll_47 k2 n) s x1 x2 x3 x4 x5 x6 (0 : Int32) (x3 - x3 / (6 : Int32) * (6 : Int32)))))
set_option maxHeartbeats 4000000 in
theorem w_X5_stepAll_47 {X : CX} {E : EV} {a0 s' : St} {r : Unit} (B : FX X E cX5_stepAll 9 none "RoseThrowModel" "stepAll" (sn a0) (ss a0) 10 234) (hS : ∀ σ, eSk E σ → SkM σ) (k2 : St → Int32 → Int32 → Option (Unit × St)) (hk2 : ∀ (s : St) (x1 : Int32) (x2 : Int32), k2 s x1 x2 = some (r, s') → J X E (sn a0) (ss a0) 9 (QR X E a0 none s') s 2 [(0, vr (some 0)), (1, vi x1), (2, vi x2)] []) : ∀ (n : Nat) (s : St) (x1 : Int32) (x2 : Int32) (x3 : Int32) (x4 : Int32) (x5 : Int32) (x6 : Int32), F_X5_stepAll_47  k2 n s x1 x2 x3 x4 x5 x6 = some (r, s') → J X E (sn a0) (ss a0) 9 (QR X E a0 none s') s 47 [(0, vr (some 0)), (1, vi x1), (2, vi x2), (3, vi x3), (4, vi x4), (5, vi x5), (6, vi x6)] [] := by
  intro n
  induction n with
  | zero => intro s x1 x2 x3 x4 x5 x6 h; exact absurd (show (none : Option (Unit × St)) = _ from h) (by simp)
  | succ n ih =>
    intro s x1 x2 x3 x4 x5 x6 h
    rw [F_X5_stepAll_47] at h
    refine r_iload (j := 6) B dX5_stepAll_47 rfl ?_
    refine r_iconst (v := 4) B dX5_stepAll_49 (by decide) ?_
    refine r_ic_ge (tgt := 183) B dX5_stepAll_50 (by decide) (fun cn1 => ?_) (fun cn1 => ?_)
    · have h := ot cn1 h
      refine r_aload_n (j := 0) B dX5_stepAll_183 rfl rfl ?_
      refine r_iload_n (j := 2) B dX5_stepAll_184 rfl rfl ?_
      refine r_iload (j := 4) B dX5_stepAll_185 rfl ?_
      obtain ⟨r2, s3, hc4, h⟩ := bnd_e h
      refine r_callV0 (As := [vi x2, vi x4]) (rest := []) B rfl rfl EX.same (c_X5_setCell B.ge hS hc4) (cw_X5_setCell rfl rfl) (fun z => RV.of 5 ((fun z => by rw [(hS _ z).1 0 (by decide)]; rfl) z) rfl rfl qs49) q1732 q1734 rfl dX5_stepAll_187 ?_
      refine r_iinc (j := 2) (v := (x2 + (1))) (L' := [(0, vr (some 0)), (1, vi x1), (2, vi (x2 + (1))), (3, vi x3), (4, vi x4), (5, vi x5), (6, vi x6)]) B dX5_stepAll_190 rfl rfl (by decide) rfl rfl rfl ?_
      refine r_goto (tgt := 2) B dX5_stepAll_193 (by decide) ?_
      refine r_pick [0, 1, 2] (L' := [(0, vr (some 0)), (1, vi x1), (2, vi (x2 + (1)))]) rfl ?_
      exact hk2 s3 x1 (x2 + (1)) h
    · have h := of cn1 h
      refine r_aload_n (j := 0) B dX5_stepAll_53 rfl rfl ?_
      refine r_iload_n (j := 3) B dX5_stepAll_54 rfl rfl ?_
      refine r_bipush (v := 6) B dX5_stepAll_55 (by decide) ?_
      refine r_irem B dX5_stepAll_57 (by decide) ?_
      refine r_iload (j := 6) B dX5_stepAll_58 rfl ?_
      refine r_iconst (v := 1) B dX5_stepAll_60 (by decide) ?_
      refine r_ic_ne (tgt := 68) B dX5_stepAll_61 (by decide) (fun cn5 => ?_) (fun cn5 => ?_)
      · have h := of cn5 h
        refine r_iload (j := 6) B dX5_stepAll_68 rfl ?_
        refine r_iconst (v := 3) B dX5_stepAll_70 (by decide) ?_
        refine r_ic_ne (tgt := 78) B dX5_stepAll_71 (by decide) (fun cn6 => ?_) (fun cn6 => ?_)
        · have h := of cn6 h
          refine r_iconst (v := 0) B dX5_stepAll_78 (by decide) ?_
          exact w_X5_stepAll_79 B hS k2 (F_X5_stepAll_47 k2 n) hk2 ih s x1 x2 x3 x4 x5 x6 (0 : Int32) (x3 - x3 / (6 : Int32) * (6 : Int32)) h
        · have h := ot cn6 h
          refine r_iconst (v := -1) B dX5_stepAll_74 (by decide) ?_
          refine r_goto (tgt := 79) B dX5_stepAll_75 (by decide) ?_
          exact w_X5_stepAll_79 B hS k2 (F_X5_stepAll_47 k2 n) hk2 ih s x1 x2 x3 x4 x5 x6 (-1 : Int32) (x3 - x3 / (6 : Int32) * (6 : Int32)) h
      · have h := ot cn5 h
        refine r_iconst (v := 1) B dX5_stepAll_64 (by decide) ?_
        refine r_goto (tgt := 79) B dX5_stepAll_65 (by decide) ?_
        exact w_X5_stepAll_79 B hS k2 (F_X5_stepAll_47 k2 n) hk2 ih s x1 x2 x3 x4 x5 x6 (1 : Int32) (x3 - x3 / (6 : Int32) * (6 : Int32)) h
set_option maxHeartbeats 4000000 in
noncomputable def F_X5_stepAll_2 : Nat → St → Int32 → Int32 → Option (Unit × St)
  | 0 => fun _ _ _ => none
  | n + 1 => fun s x1 x2 => gd (inb (0 : Int32) 5460) <| if (si s 2 (0 : Int32).toNatClampNeg) ≤ x2 then (some ((), s)) else (if x2 = x1 then (F_X5_stepAll_2  n s x1 (x2 + (1))) else (bnd (F_X5_ofCatcher s x2 (1 : Int32)) fun r4 s5 => if r4 ≤ 0 then (F_X5_stepAll_2  n s5 x1 (x2 + (1))) else (bnd (F_X5_ofCatcher s5 x2 (3 : Int32)) fun r8 s9 => bnd (F_X5_partsAt s9 x2 r8) fun r11 s12 => F_X5_stepAll_47 (F_X5_stepAll_2  n) FU s12 x1 x2 r8 r8 r11 (0 : Int32))))
set_option maxHeartbeats 4000000 in
theorem w_X5_stepAll_2 {X : CX} {E : EV} {a0 s' : St} {r : Unit} (B : FX X E cX5_stepAll 9 none "RoseThrowModel" "stepAll" (sn a0) (ss a0) 10 234) (hS : ∀ σ, eSk E σ → SkM σ) : ∀ (n : Nat) (s : St) (x1 : Int32) (x2 : Int32), F_X5_stepAll_2   n s x1 x2 = some (r, s') → J X E (sn a0) (ss a0) 9 (QR X E a0 none s') s 2 [(0, vr (some 0)), (1, vi x1), (2, vi x2)] [] := by
  intro n
  induction n with
  | zero => intro s x1 x2 h; exact absurd (show (none : Option (Unit × St)) = _ from h) (by simp)
  | succ n ih =>
    intro s x1 x2 h
    rw [F_X5_stepAll_2] at h
    refine r_iload_n (j := 2) B dX5_stepAll_2 rfl rfl ?_
    refine r_aload_n (j := 0) B dX5_stepAll_3 rfl rfl ?_
    refine g5 (k := 3) B (vr (some 2)) rfl (fun z => by rw [(hS _ z).1 0 (by decide)]; rfl) rfl q1520 rfl (fun z => by rw [(hS _ z).2 _ (List.mem_of_getElem? (i := 1) rfl)]; rfl) dX5_stepAll_4 ?_
    refine r_iconst (v := 0) B dX5_stepAll_7 (by decide) ?_
    obtain ⟨hg1, h⟩ := gd_e h
    refine r_iald B rfl (fun z => (hS _ z).1 2 (by decide)) hg1 dX5_stepAll_8 ?_
    refine r_ic_ge (tgt := 196) B dX5_stepAll_9 (by decide) (fun cn2 => ?_) (fun cn2 => ?_)
    · have h := ot cn2 h
      exact r_vret B dX5_stepAll_196 h
    · have h := of cn2 h
      refine r_iload_n (j := 2) B dX5_stepAll_12 rfl rfl ?_
      refine r_iload_n (j := 1) B dX5_stepAll_13 rfl rfl ?_
      refine r_ic_eq (tgt := 190) B dX5_stepAll_14 (by decide) (fun cn3 => ?_) (fun cn3 => ?_)
      · have h := ot cn3 h
        refine r_iinc (j := 2) (v := (x2 + (1))) (L' := [(0, vr (some 0)), (1, vi x1), (2, vi (x2 + (1)))]) B dX5_stepAll_190 rfl rfl (by decide) rfl rfl rfl ?_
        refine r_goto (tgt := 2) B dX5_stepAll_193 (by decide) ?_
        exact ih s x1 (x2 + (1)) h
      · have h := of cn3 h
        refine r_aload_n (j := 0) B dX5_stepAll_17 rfl rfl ?_
        refine r_iload_n (j := 2) B dX5_stepAll_18 rfl rfl ?_
        refine r_iconst (v := 1) B dX5_stepAll_19 (by decide) ?_
        obtain ⟨r4, s5, hc6, h⟩ := bnd_e h
        refine r_callVv (As := [vi x2, vi (1 : Int32)]) (rest := []) B rfl rfl EX.same (c_X5_ofCatcher B.ge hS hc6) (cw_X5_ofCatcher rfl rfl) (fun z => RV.of 5 ((fun z => by rw [(hS _ z).1 0 (by decide)]; rfl) z) rfl rfl qs52) q1766 q1768 rfl dX5_stepAll_20 ?_
        refine r_if_le (tgt := 190) B dX5_stepAll_23 (by decide) (fun cn7 => ?_) (fun cn7 => ?_)
        · have h := ot cn7 h
          refine r_iinc (j := 2) (v := (x2 + (1))) (L' := [(0, vr (some 0)), (1, vi x1), (2, vi (x2 + (1)))]) B dX5_stepAll_190 rfl rfl (by decide) rfl rfl rfl ?_
          refine r_goto (tgt := 2) B dX5_stepAll_193 (by decide) ?_
          exact ih s5 x1 (x2 + (1)) h
        · have h := of cn7 h
          refine r_aload_n (j := 0) B dX5_stepAll_26 rfl rfl ?_
          refine r_iload_n (j := 2) B dX5_stepAll_27 rfl rfl ?_
          refine r_iconst (v := 3) B dX5_stepAll_28 (by decide) ?_
          obtain ⟨r8, s9, hc10, h⟩ := bnd_e h
          refine r_callVv (As := [vi x2, vi (3 : Int32)]) (rest := []) B rfl rfl EX.same (c_X5_ofCatcher B.ge hS hc10) (cw_X5_ofCatcher rfl rfl) (fun z => RV.of 5 ((fun z => by rw [(hS _ z).1 0 (by decide)]; rfl) z) rfl rfl qs52) q1766 q1768 rfl dX5_stepAll_29 ?_
          refine r_istore_n (L' := [(0, vr (some 0)), (1, vi x1), (2, vi x2), (3, vi r8)]) B dX5_stepAll_32 rfl (by decide) rfl rfl rfl ?_
          refine r_iload_n (j := 3) B dX5_stepAll_33 rfl rfl ?_
          refine r_istore (L' := [(0, vr (some 0)), (1, vi x1), (2, vi x2), (3, vi r8), (4, vi r8)]) B dX5_stepAll_34 (by decide) rfl rfl rfl ?_
          refine r_aload_n (j := 0) B dX5_stepAll_36 rfl rfl ?_
          refine r_iload_n (j := 2) B dX5_stepAll_37 rfl rfl ?_
          refine r_iload_n (j := 3) B dX5_stepAll_38 rfl rfl ?_
          obtain ⟨r11, s12, hc13, h⟩ := bnd_e h
          refine r_callVv (As := [vi x2, vi r8]) (rest := []) B rfl rfl EX.same (c_X5_partsAt B.ge hS hc13) (cw_X5_partsAt rfl rfl) (fun z => RV.of 5 ((fun z => by rw [(hS _ z).1 0 (by decide)]; rfl) z) rfl rfl qs102) q2062 q2064 rfl dX5_stepAll_39 ?_
          refine r_istore (L' := [(0, vr (some 0)), (1, vi x1), (2, vi x2), (3, vi r8), (4, vi r8), (5, vi r11)]) B dX5_stepAll_42 (by decide) rfl rfl rfl ?_
          refine r_iconst (v := 0) B dX5_stepAll_44 (by decide) ?_
          refine r_istore (L' := [(0, vr (some 0)), (1, vi x1), (2, vi x2), (3, vi r8), (4, vi r8), (5, vi r11), (6, vi (0 : Int32))]) B dX5_stepAll_45 (by decide) rfl rfl rfl ?_
          exact w_X5_stepAll_47 B hS (F_X5_stepAll_2  n) ih FU s12 x1 x2 r8 r8 r11 (0 : Int32) h
set_option maxHeartbeats 4000000 in
noncomputable def F_X5_stepAll (s : St) (p0 : Int32) : Option (Unit × St) := F_X5_stepAll_2 FU s p0 (0 : Int32)
set_option maxHeartbeats 4000000 in
theorem c_X5_stepAll {l : Launch} {E : EV} (hE : GE E) (hS : ∀ σ, eSk E σ → SkM σ) {s s' : St} {r : Unit} {p0 : Int32} (h : F_X5_stepAll  s p0 = some (r, s')) : CT l E yX5_stepAll cX5_stepAll 9 none 10 234 [vr (some 0), vi p0] s none s' := by
  refine CT.start hE (by decide) rfl [(0, vr (some 0)), (1, vi p0)] rfl (fun X hX B => ?_)
  skip
  have B : FX X E cX5_stepAll 9 none "RoseThrowModel" "stepAll" (sn s) (ss s) 10 234 := B
  unfold F_X5_stepAll at h
  refine r_iconst (v := 0) B dX5_stepAll_0 (by decide) ?_
  refine r_istore_n (L' := [(0, vr (some 0)), (1, vi p0), (2, vi (0 : Int32))]) B dX5_stepAll_1 rfl (by decide) rfl rfl rfl ?_
  exact w_X5_stepAll_2 B hS FU s p0 (0 : Int32) h
set_option maxHeartbeats 4000000 in
theorem cw_X5_stepAll {X : CX} {fr lo : Nat} (h1 : Nat.ble (10 + 1) fr = true) (h2 : Nat.ble (28 + 234) lo = true) : CW X fr lo yX5_stepAll cX5_stepAll 9 none 10 234 1 := ⟨q2105, q136, ⟨by decide +kernel, by decide +kernel, by decide +kernel⟩, Nat.le_of_ble_eq_true h1, Nat.le_of_ble_eq_true h2⟩

set_option maxHeartbeats 4000000 in
noncomputable def F_X5_heard_41 : Nat → St → Int32 → Int32 → Int32 → Option (Int64 × St)
  | 0 => fun _ _ _ _ => none
  | n + 1 => fun s x1 x2 x3 => if (25 : Int32) ≤ x3 then (bnd (F_X5_tellThrow s (si s 0 54) x2) fun r2 s3 => some (r2, s3)) else (bnd (F_X5_aimAt s x3) fun _ s6 => bnd (F_X5_stepAll s6 x1) fun _ s9 => bnd (F_X5_findAll s9) fun _ s12 => gd (inb x1 7) <| bnd (F_X5_weigh s12 x3 x3 (((si s12 26 x1.toNatClampNeg)).toInt64) ((((60 : Int32) * (si s12 0 45))).toInt64)) fun _ s16 => bnd (F_X5_putBack s16 (96 : Int32)) fun _ s19 => F_X5_heard_41  n s19 x1 x2 (x3 + (1)))
set_option maxHeartbeats 4000000 in
theorem w_X5_heard_41 {X : CX} {E : EV} {a0 s' : St} {r : Int64} (B : FX X E cX5_heard 4 (some .long) "RoseThrowModel" "heard" (sn a0) (ss a0) 11 262) (hS : ∀ σ, eSk E σ → SkM σ) : ∀ (n : Nat) (s : St) (x1 : Int32) (x2 : Int32) (x3 : Int32), F_X5_heard_41   n s x1 x2 x3 = some (r, s') → J X E (sn a0) (ss a0) 4 (QR X E a0 (some (vl r)) s') s 41 [(0, vr (some 0)), (1, vi x1), (2, vi x2), (3, vi x3)] [] := by
  intro n
  induction n with
  | zero => intro s x1 x2 x3 h; exact absurd (show (none : Option (Int64 × St)) = _ from h) (by simp)
  | succ n ih =>
    intro s x1 x2 x3 h
    rw [F_X5_heard_41] at h
    refine r_iload_n (j := 3) B dX5_heard_41 rfl rfl ?_
    refine r_bipush (v := 25) B dX5_heard_42 (by decide) ?_
    refine r_ic_ge (tgt := 94) B dX5_heard_44 (by decide) (fun cn1 => ?_) (fun cn1 => ?_)
    · have h := ot cn1 h
      refine r_aload_n (j := 0) B dX5_heard_94 rfl rfl ?_
      refine r_aload_n (j := 0) B dX5_heard_95 rfl rfl ?_
      refine g5 (k := 54) B (vi (si s 0 54)) rfl (fun z => by rw [(hS _ z).1 0 (by decide)]; rfl) rfl q1571 rfl (fun _ => rfl) dX5_heard_96 ?_
      refine r_iload_n (j := 2) B dX5_heard_99 rfl rfl ?_
      obtain ⟨r2, s3, hc4, h⟩ := bnd_e h
      refine r_callVv (As := [vi (si s 0 54), vi x2]) (rest := []) B rfl rfl EX.same (c_X5_tellThrow B.ge hS hc4) (cw_X5_tellThrow rfl rfl) (fun z => RV.of 5 ((fun z => by rw [(hS _ z).1 0 (by decide)]; rfl) z) rfl rfl qs108) q2094 q2096 rfl dX5_heard_100 ?_
      exact r_lret B dX5_heard_103 h
    · have h := of cn1 h
      refine r_aload_n (j := 0) B dX5_heard_47 rfl rfl ?_
      refine r_iload_n (j := 3) B dX5_heard_48 rfl rfl ?_
      obtain ⟨r5, s6, hc7, h⟩ := bnd_e h
      refine r_callV0 (As := [vi x3]) (rest := []) B rfl rfl EX.same (c_X5_aimAt B.ge hS hc7) (cw_X5_aimAt rfl rfl) (fun z => RV.of 5 ((fun z => by rw [(hS _ z).1 0 (by decide)]; rfl) z) rfl rfl qs106) q2086 q2088 rfl dX5_heard_49 ?_
      refine r_aload_n (j := 0) B dX5_heard_52 rfl rfl ?_
      refine r_iload_n (j := 1) B dX5_heard_53 rfl rfl ?_
      obtain ⟨r8, s9, hc10, h⟩ := bnd_e h
      refine r_callV0 (As := [vi x1]) (rest := []) B rfl rfl EX.same (c_X5_stepAll B.ge hS hc10) (cw_X5_stepAll rfl rfl) (fun z => RV.of 5 ((fun z => by rw [(hS _ z).1 0 (by decide)]; rfl) z) rfl rfl qs109) q2102 q2104 rfl dX5_heard_54 ?_
      refine r_aload_n (j := 0) B dX5_heard_57 rfl rfl ?_
      obtain ⟨r11, s12, hc13, h⟩ := bnd_e h
      refine r_callV0 (As := []) (rest := []) B rfl rfl EX.same (c_X5_findAll B.ge hS hc13) (cw_X5_findAll rfl rfl) (fun z => RV.of 5 ((fun z => by rw [(hS _ z).1 0 (by decide)]; rfl) z) rfl rfl qs97) q2032 q2034 rfl dX5_heard_58 ?_
      refine r_aload_n (j := 0) B dX5_heard_61 rfl rfl ?_
      refine r_iload_n (j := 3) B dX5_heard_62 rfl rfl ?_
      refine r_iload_n (j := 3) B dX5_heard_63 rfl rfl ?_
      refine r_aload_n (j := 0) B dX5_heard_64 rfl rfl ?_
      refine g5 (k := 51) B (vr (some 26)) rfl (fun z => by rw [(hS _ z).1 0 (by decide)]; rfl) rfl q1568 rfl (fun z => by rw [(hS _ z).2 _ (List.mem_of_getElem? (i := 25) rfl)]; rfl) dX5_heard_65 ?_
      refine r_iload_n (j := 1) B dX5_heard_68 rfl rfl ?_
      obtain ⟨hg14, h⟩ := gd_e h
      refine r_iald B rfl (fun z => (hS _ z).1 26 (by decide)) hg14 dX5_heard_69 ?_
      refine r_i2l B dX5_heard_70 ?_
      refine r_bipush (v := 60) B dX5_heard_71 (by decide) ?_
      refine r_aload_n (j := 0) B dX5_heard_73 rfl rfl ?_
      refine g5 (k := 45) B (vi (si s12 0 45)) rfl (fun z => by rw [(hS _ z).1 0 (by decide)]; rfl) rfl q1562 rfl (fun _ => rfl) dX5_heard_74 ?_
      refine r_imul B dX5_heard_77 ?_
      refine r_i2l B dX5_heard_78 ?_
      obtain ⟨r15, s16, hc17, h⟩ := bnd_e h
      refine r_callV0 (As := [vi x3, vi x3, vl (((si s12 26 x1.toNatClampNeg)).toInt64), vl ((((60 : Int32) * (si s12 0 45))).toInt64)]) (rest := []) B rfl rfl EX.same (c_X5_weigh B.ge hS hc17) (cw_X5_weigh rfl rfl) (fun z => RV.of 5 ((fun z => by rw [(hS _ z).1 0 (by decide)]; rfl) z) rfl rfl qs107) q2090 q2092 rfl dX5_heard_79 ?_
      refine r_aload_n (j := 0) B dX5_heard_82 rfl rfl ?_
      refine r_bipush (v := 96) B dX5_heard_83 (by decide) ?_
      obtain ⟨r18, s19, hc20, h⟩ := bnd_e h
      refine r_callV0 (As := [vi (96 : Int32)]) (rest := []) B rfl rfl EX.same (c_X5_putBack B.ge hS hc20) (cw_X5_putBack rfl rfl) (fun z => RV.of 5 ((fun z => by rw [(hS _ z).1 0 (by decide)]; rfl) z) rfl rfl qs48) q1728 q1730 rfl dX5_heard_85 ?_
      refine r_iinc (j := 3) (v := (x3 + (1))) (L' := [(0, vr (some 0)), (1, vi x1), (2, vi x2), (3, vi (x3 + (1)))]) B dX5_heard_88 rfl rfl (by decide) rfl rfl rfl ?_
      refine r_goto (tgt := 41) B dX5_heard_91 (by decide) ?_
      exact ih s19 x1 x2 (x3 + (1)) h
set_option maxHeartbeats 4000000 in
noncomputable def F_X5_heard (s : St) (p0 : Int32) (p1 : Int32) : Option (Int64 × St) := nam (setI s 0 0 (0 : Int32)) fun s1 => bnd (F_X5_isCatcher s1 p0) fun r3 s4 => if r3 = 0 then (some ((-1 : Int64), s4)) else (bnd (F_X5_in s4 ((p1).toInt64) (0 : Int64) (3 : Int64)) fun r7 s8 => if r7 = 0 then (some ((-1 : Int64), s8)) else (bnd (F_X5_beginBest s8) fun _ s12 => bnd (F_X5_keepCells s12 (96 : Int32)) fun _ s15 => F_X5_heard_41 FU s15 p0 p1 (0 : Int32)))
set_option maxHeartbeats 4000000 in
theorem c_X5_heard {l : Launch} {E : EV} (hE : GE E) (hS : ∀ σ, eSk E σ → SkM σ) {s s' : St} {r : Int64} {p0 : Int32} {p1 : Int32} (h : F_X5_heard  s p0 p1 = some (r, s')) : CT l E yX5_heard cX5_heard 4 (some .long) 11 262 [vr (some 0), vi p0, vi p1] s (some (vl r)) s' := by
  refine CT.start hE (by decide) rfl [(0, vr (some 0)), (1, vi p0), (2, vi p1)] rfl (fun X hX B => ?_)
  skip
  have B : FX X E cX5_heard 4 (some .long) "RoseThrowModel" "heard" (sn s) (ss s) 11 262 := B
  unfold F_X5_heard at h
  refine r_aload_n (j := 0) B dX5_heard_0 rfl rfl ?_
  refine r_iconst (v := 0) B dX5_heard_1 (by decide) ?_
  obtain ⟨s1, e2, h⟩ := nam_e h
  refine pI5 (k := 0) B e2 rfl (fun z => by rw [(hS _ z).1 0 (by decide)]; rfl) rfl q1517 rfl rfl (fun _ _ _ => rfl) rfl dX5_heard_2 ?_
  refine r_aload_n (j := 0) B dX5_heard_5 rfl rfl ?_
  refine r_iload_n (j := 1) B dX5_heard_6 rfl rfl ?_
  obtain ⟨r3, s4, hc5, h⟩ := bnd_e h
  refine r_callVv (As := [vi p0]) (rest := []) B rfl rfl EX.same (c_X5_isCatcher B.ge hS hc5) (cw_X5_isCatcher rfl rfl) (fun z => RV.of 5 ((fun z => by rw [(hS _ z).1 0 (by decide)]; rfl) z) rfl rfl qs60) q1799 q1801 rfl dX5_heard_7 ?_
  refine r_if_eq (tgt := 25) B dX5_heard_10 (by decide) (fun cn6 => ?_) (fun cn6 => ?_)
  · have h := ot cn6 h
    refine r_ldc2 B dX5_heard_25 q1782 ?_
    exact r_lret B dX5_heard_28 h
  · have h := of cn6 h
    refine r_iload_n (j := 2) B dX5_heard_13 rfl rfl ?_
    refine r_i2l B dX5_heard_14 ?_
    refine r_lconst (v := 0) B dX5_heard_15 (by decide) ?_
    refine r_ldc2 B dX5_heard_16 q1759 ?_
    obtain ⟨r7, s8, hc9, h⟩ := bnd_e h
    refine r_callSv (As := [vl ((p1).toInt64), vl (0 : Int64), vl (3 : Int64)]) (rest := []) B rfl EX.same (c_X5_in B.ge hS hc9) (cw_X5_in rfl rfl) q1740 q1741 rfl dX5_heard_19 ?_
    refine r_if_ne (tgt := 29) B dX5_heard_22 (by decide) (fun cn10 => ?_) (fun cn10 => ?_)
    · have h := of cn10 h
      refine r_aload_n (j := 0) B dX5_heard_29 rfl rfl ?_
      obtain ⟨r11, s12, hc13, h⟩ := bnd_e h
      refine r_callV0 (As := []) (rest := []) B rfl rfl EX.same (c_X5_beginBest B.ge hS hc13) (cw_X5_beginBest rfl rfl) (fun z => RV.of 5 ((fun z => by rw [(hS _ z).1 0 (by decide)]; rfl) z) rfl rfl qs105) q2082 q2084 rfl dX5_heard_30 ?_
      refine r_aload_n (j := 0) B dX5_heard_33 rfl rfl ?_
      refine r_bipush (v := 96) B dX5_heard_34 (by decide) ?_
      obtain ⟨r14, s15, hc16, h⟩ := bnd_e h
      refine r_callV0 (As := [vi (96 : Int32)]) (rest := []) B rfl rfl EX.same (c_X5_keepCells B.ge hS hc16) (cw_X5_keepCells rfl rfl) (fun z => RV.of 5 ((fun z => by rw [(hS _ z).1 0 (by decide)]; rfl) z) rfl rfl qs103) q2070 q2072 rfl dX5_heard_36 ?_
      refine r_iconst (v := 0) B dX5_heard_39 (by decide) ?_
      refine r_istore_n (L' := [(0, vr (some 0)), (1, vi p0), (2, vi p1), (3, vi (0 : Int32))]) B dX5_heard_40 rfl (by decide) rfl rfl rfl ?_
      exact w_X5_heard_41 B hS FU s15 p0 p1 (0 : Int32) h
    · have h := ot cn10 h
      refine r_ldc2 B dX5_heard_25 q1782 ?_
      exact r_lret B dX5_heard_28 h
set_option maxHeartbeats 4000000 in
theorem cw_X5_heard {X : CX} {fr lo : Nat} (h1 : Nat.ble (11 + 1) fr = true) (h2 : Nat.ble (23 + 262) lo = true) : CW X fr lo yX5_heard cX5_heard 4 (some .long) 11 262 2 := ⟨q2101, q136, ⟨by decide +kernel, by decide +kernel, by decide +kernel⟩, Nat.le_of_ble_eq_true h1, Nat.le_of_ble_eq_true h2⟩

set_option maxHeartbeats 4000000 in
noncomputable def F_X5_feint_60 (k41 : St → Int32 → Int32 → Int32 → Option (Int64 × St)) : Nat → St → Int32 → Int32 → Int32 → Int32 → Option (Int64 × St)
  | 0 => fun _ _ _ _ _ => none
  | n + 1 => fun s x1 x2 x3 x4 => if (25 : Int32) ≤ x4 then (bnd (F_X5_putBack s (96 : Int32)) fun _ s3 => k41 s3 x1 x2 (x3 + (1))) else (bnd (F_X5_aimAt s x4) fun _ s6 => bnd (F_X5_findAll s6) fun _ s9 => gd (inb x1 7) <| bnd (F_X5_weigh s9 x3 x4 (((si s9 26 x1.toNatClampNeg)).toInt64) ((((60 : Int32) * (si s9 0 45))).toInt64)) fun _ s13 => F_X5_feint_60 k41 n s13 x1 x2 x3 (x4 + (1)))
set_option maxHeartbeats 4000000 in
theorem w_X5_feint_60 {X : CX} {E : EV} {a0 s' : St} {r : Int64} (B : FX X E cX5_feint 5 (some .long) "RoseThrowModel" "feint" (sn a0) (ss a0) 11 262) (hS : ∀ σ, eSk E σ → SkM σ) (k41 : St → Int32 → Int32 → Int32 → Option (Int64 × St)) (hk41 : ∀ (s : St) (x1 : Int32) (x2 : Int32) (x3 : Int32), k41 s x1 x2 x3 = some (r, s') → J X E (sn a0) (ss a0) 5 (QR X E a0 (some (vl r)) s') s 41 [(0, vr (some 0)), (1, vi x1), (2, vi x2), (3, vi x3)] []) : ∀ (n : Nat) (s : St) (x1 : Int32) (x2 : Int32) (x3 : Int32) (x4 : Int32), F_X5_feint_60  k41 n s x1 x2 x3 x4 = some (r, s') → J X E (sn a0) (ss a0) 5 (QR X E a0 (some (vl r)) s') s 60 [(0, vr (some 0)), (1, vi x1), (2, vi x2), (3, vi x3), (4, vi x4)] [] := by
  intro n
  induction n with
  | zero => intro s x1 x2 x3 x4 h; exact absurd (show (none : Option (Int64 × St)) = _ from h) (by simp)
  | succ n ih =>
    intro s x1 x2 x3 x4 h
    rw [F_X5_feint_60] at h
    refine r_iload (j := 4) B dX5_feint_60 rfl ?_
    refine r_bipush (v := 25) B dX5_feint_62 (by decide) ?_
    refine r_ic_ge (tgt := 105) B dX5_feint_64 (by decide) (fun cn1 => ?_) (fun cn1 => ?_)
    · have h := ot cn1 h
      refine r_aload_n (j := 0) B dX5_feint_105 rfl rfl ?_
      refine r_bipush (v := 96) B dX5_feint_106 (by decide) ?_
      obtain ⟨r2, s3, hc4, h⟩ := bnd_e h
      refine r_callV0 (As := [vi (96 : Int32)]) (rest := []) B rfl rfl EX.same (c_X5_putBack B.ge hS hc4) (cw_X5_putBack rfl rfl) (fun z => RV.of 5 ((fun z => by rw [(hS _ z).1 0 (by decide)]; rfl) z) rfl rfl qs48) q1728 q1730 rfl dX5_feint_108 ?_
      refine r_iinc (j := 3) (v := (x3 + (1))) (L' := [(0, vr (some 0)), (1, vi x1), (2, vi x2), (3, vi (x3 + (1))), (4, vi x4)]) B dX5_feint_111 rfl rfl (by decide) rfl rfl rfl ?_
      refine r_goto (tgt := 41) B dX5_feint_114 (by decide) ?_
      refine r_pick [0, 1, 2, 3] (L' := [(0, vr (some 0)), (1, vi x1), (2, vi x2), (3, vi (x3 + (1)))]) rfl ?_
      exact hk41 s3 x1 x2 (x3 + (1)) h
    · have h := of cn1 h
      refine r_aload_n (j := 0) B dX5_feint_67 rfl rfl ?_
      refine r_iload (j := 4) B dX5_feint_68 rfl ?_
      obtain ⟨r5, s6, hc7, h⟩ := bnd_e h
      refine r_callV0 (As := [vi x4]) (rest := []) B rfl rfl EX.same (c_X5_aimAt B.ge hS hc7) (cw_X5_aimAt rfl rfl) (fun z => RV.of 5 ((fun z => by rw [(hS _ z).1 0 (by decide)]; rfl) z) rfl rfl qs106) q2086 q2088 rfl dX5_feint_70 ?_
      refine r_aload_n (j := 0) B dX5_feint_73 rfl rfl ?_
      obtain ⟨r8, s9, hc10, h⟩ := bnd_e h
      refine r_callV0 (As := []) (rest := []) B rfl rfl EX.same (c_X5_findAll B.ge hS hc10) (cw_X5_findAll rfl rfl) (fun z => RV.of 5 ((fun z => by rw [(hS _ z).1 0 (by decide)]; rfl) z) rfl rfl qs97) q2032 q2034 rfl dX5_feint_74 ?_
      refine r_aload_n (j := 0) B dX5_feint_77 rfl rfl ?_
      refine r_iload_n (j := 3) B dX5_feint_78 rfl rfl ?_
      refine r_iload (j := 4) B dX5_feint_79 rfl ?_
      refine r_aload_n (j := 0) B dX5_feint_81 rfl rfl ?_
      refine g5 (k := 51) B (vr (some 26)) rfl (fun z => by rw [(hS _ z).1 0 (by decide)]; rfl) rfl q1568 rfl (fun z => by rw [(hS _ z).2 _ (List.mem_of_getElem? (i := 25) rfl)]; rfl) dX5_feint_82 ?_
      refine r_iload_n (j := 1) B dX5_feint_85 rfl rfl ?_
      obtain ⟨hg11, h⟩ := gd_e h
      refine r_iald B rfl (fun z => (hS _ z).1 26 (by decide)) hg11 dX5_feint_86 ?_
      refine r_i2l B dX5_feint_87 ?_
      refine r_bipush (v := 60) B dX5_feint_88 (by decide) ?_
      refine r_aload_n (j := 0) B dX5_feint_90 rfl rfl ?_
      refine g5 (k := 45) B (vi (si s9 0 45)) rfl (fun z => by rw [(hS _ z).1 0 (by decide)]; rfl) rfl q1562 rfl (fun _ => rfl) dX5_feint_91 ?_
      refine r_imul B dX5_feint_94 ?_
      refine r_i2l B dX5_feint_95 ?_
      obtain ⟨r12, s13, hc14, h⟩ := bnd_e h
      refine r_callV0 (As := [vi x3, vi x4, vl (((si s9 26 x1.toNatClampNeg)).toInt64), vl ((((60 : Int32) * (si s9 0 45))).toInt64)]) (rest := []) B rfl rfl EX.same (c_X5_weigh B.ge hS hc14) (cw_X5_weigh rfl rfl) (fun z => RV.of 5 ((fun z => by rw [(hS _ z).1 0 (by decide)]; rfl) z) rfl rfl qs107) q2090 q2092 rfl dX5_feint_96 ?_
      refine r_iinc (j := 4) (v := (x4 + (1))) (L' := [(0, vr (some 0)), (1, vi x1), (2, vi x2), (3, vi x3), (4, vi (x4 + (1)))]) B dX5_feint_99 rfl rfl (by decide) rfl rfl rfl ?_
      refine r_goto (tgt := 60) B dX5_feint_102 (by decide) ?_
      exact ih s13 x1 x2 x3 (x4 + (1)) h
set_option maxHeartbeats 4000000 in
noncomputable def F_X5_feint_41 : Nat → St → Int32 → Int32 → Int32 → Option (Int64 × St)
  | 0 => fun _ _ _ _ => none
  | n + 1 => fun s x1 x2 x3 => if (25 : Int32) ≤ x3 then (if (2 : Int32) ≤ x2 then (bnd (F_X5_tellThrow s (si s 0 54) (x2 - (2 : Int32))) fun r3 s4 => some (r3, s4)) else (bnd (F_X5_tellThrow s (si s 0 55) x2) fun r6 s7 => some (r6, s7))) else (bnd (F_X5_aimAt s x3) fun _ s10 => bnd (F_X5_stepAll s10 x1) fun _ s13 => F_X5_feint_60 (F_X5_feint_41  n) FU s13 x1 x2 x3 (0 : Int32))
set_option maxHeartbeats 4000000 in
theorem w_X5_feint_41 {X : CX} {E : EV} {a0 s' : St} {r : Int64} (B : FX X E cX5_feint 5 (some .long) "RoseThrowModel" "feint" (sn a0) (ss a0) 11 262) (hS : ∀ σ, eSk E σ → SkM σ) : ∀ (n : Nat) (s : St) (x1 : Int32) (x2 : Int32) (x3 : Int32), F_X5_feint_41   n s x1 x2 x3 = some (r, s') → J X E (sn a0) (ss a0) 5 (QR X E a0 (some (vl r)) s') s 41 [(0, vr (some 0)), (1, vi x1), (2, vi x2), (3, vi x3)] [] := by
  intro n
  induction n with
  | zero => intro s x1 x2 x3 h; exact absurd (show (none : Option (Int64 × St)) = _ from h) (by simp)
  | succ n ih =>
    intro s x1 x2 x3 h
    rw [F_X5_feint_41] at h
    refine r_iload_n (j := 3) B dX5_feint_41 rfl rfl ?_
    refine r_bipush (v := 25) B dX5_feint_42 (by decide) ?_
    refine r_ic_ge (tgt := 117) B dX5_feint_44 (by decide) (fun cn1 => ?_) (fun cn1 => ?_)
    · have h := ot cn1 h
      refine r_iload_n (j := 2) B dX5_feint_117 rfl rfl ?_
      refine r_iconst (v := 2) B dX5_feint_118 (by decide) ?_
      refine r_ic_ge (tgt := 134) B dX5_feint_119 (by decide) (fun cn2 => ?_) (fun cn2 => ?_)
      · have h := ot cn2 h
        refine r_aload_n (j := 0) B dX5_feint_134 rfl rfl ?_
        refine r_aload_n (j := 0) B dX5_feint_135 rfl rfl ?_
        refine g5 (k := 54) B (vi (si s 0 54)) rfl (fun z => by rw [(hS _ z).1 0 (by decide)]; rfl) rfl q1571 rfl (fun _ => rfl) dX5_feint_136 ?_
        refine r_iload_n (j := 2) B dX5_feint_139 rfl rfl ?_
        refine r_iconst (v := 2) B dX5_feint_140 (by decide) ?_
        refine r_isub B dX5_feint_141 ?_
        obtain ⟨r3, s4, hc5, h⟩ := bnd_e h
        refine r_callVv (As := [vi (si s 0 54), vi (x2 - (2 : Int32))]) (rest := []) B rfl rfl EX.same (c_X5_tellThrow B.ge hS hc5) (cw_X5_tellThrow rfl rfl) (fun z => RV.of 5 ((fun z => by rw [(hS _ z).1 0 (by decide)]; rfl) z) rfl rfl qs108) q2094 q2096 rfl dX5_feint_142 ?_
        exact r_lret B dX5_feint_145 h
      · have h := of cn2 h
        refine r_aload_n (j := 0) B dX5_feint_122 rfl rfl ?_
        refine r_aload_n (j := 0) B dX5_feint_123 rfl rfl ?_
        refine g5 (k := 55) B (vi (si s 0 55)) rfl (fun z => by rw [(hS _ z).1 0 (by decide)]; rfl) rfl q1572 rfl (fun _ => rfl) dX5_feint_124 ?_
        refine r_iload_n (j := 2) B dX5_feint_127 rfl rfl ?_
        obtain ⟨r6, s7, hc8, h⟩ := bnd_e h
        refine r_callVv (As := [vi (si s 0 55), vi x2]) (rest := []) B rfl rfl EX.same (c_X5_tellThrow B.ge hS hc8) (cw_X5_tellThrow rfl rfl) (fun z => RV.of 5 ((fun z => by rw [(hS _ z).1 0 (by decide)]; rfl) z) rfl rfl qs108) q2094 q2096 rfl dX5_feint_128 ?_
        refine r_goto (tgt := 145) B dX5_feint_131 (by decide) ?_
        exact r_lret B dX5_feint_145 h
    · have h := of cn1 h
      refine r_aload_n (j := 0) B dX5_feint_47 rfl rfl ?_
      refine r_iload_n (j := 3) B dX5_feint_48 rfl rfl ?_
      obtain ⟨r9, s10, hc11, h⟩ := bnd_e h
      refine r_callV0 (As := [vi x3]) (rest := []) B rfl rfl EX.same (c_X5_aimAt B.ge hS hc11) (cw_X5_aimAt rfl rfl) (fun z => RV.of 5 ((fun z => by rw [(hS _ z).1 0 (by decide)]; rfl) z) rfl rfl qs106) q2086 q2088 rfl dX5_feint_49 ?_
      refine r_aload_n (j := 0) B dX5_feint_52 rfl rfl ?_
      refine r_iload_n (j := 1) B dX5_feint_53 rfl rfl ?_
      obtain ⟨r12, s13, hc14, h⟩ := bnd_e h
      refine r_callV0 (As := [vi x1]) (rest := []) B rfl rfl EX.same (c_X5_stepAll B.ge hS hc14) (cw_X5_stepAll rfl rfl) (fun z => RV.of 5 ((fun z => by rw [(hS _ z).1 0 (by decide)]; rfl) z) rfl rfl qs109) q2102 q2104 rfl dX5_feint_54 ?_
      refine r_iconst (v := 0) B dX5_feint_57 (by decide) ?_
      refine r_istore (L' := [(0, vr (some 0)), (1, vi x1), (2, vi x2), (3, vi x3), (4, vi (0 : Int32))]) B dX5_feint_58 (by decide) rfl rfl rfl ?_
      exact w_X5_feint_60 B hS (F_X5_feint_41  n) ih FU s13 x1 x2 x3 (0 : Int32) h
set_option maxHeartbeats 4000000 in
noncomputable def F_X5_feint (s : St) (p0 : Int32) (p1 : Int32) : Option (Int64 × St) := nam (setI s 0 0 (0 : Int32)) fun s1 => bnd (F_X5_isCatcher s1 p0) fun r3 s4 => if r3 = 0 then (some ((-1 : Int64), s4)) else (bnd (F_X5_in s4 ((p1).toInt64) (0 : Int64) (5 : Int64)) fun r7 s8 => if r7 = 0 then (some ((-1 : Int64), s8)) else (bnd (F_X5_beginBest s8) fun _ s12 => bnd (F_X5_keepCells s12 (96 : Int32)) fun _ s15 => F_X5_feint_41 FU s15 p0 p1 (0 : Int32)))
set_option maxHeartbeats 4000000 in
theorem c_X5_feint {l : Launch} {E : EV} (hE : GE E) (hS : ∀ σ, eSk E σ → SkM σ) {s s' : St} {r : Int64} {p0 : Int32} {p1 : Int32} (h : F_X5_feint  s p0 p1 = some (r, s')) : CT l E yX5_feint cX5_feint 5 (some .long) 11 262 [vr (some 0), vi p0, vi p1] s (some (vl r)) s' := by
  refine CT.start hE (by decide) rfl [(0, vr (some 0)), (1, vi p0), (2, vi p1)] rfl (fun X hX B => ?_)
  skip
  have B : FX X E cX5_feint 5 (some .long) "RoseThrowModel" "feint" (sn s) (ss s) 11 262 := B
  unfold F_X5_feint at h
  refine r_aload_n (j := 0) B dX5_feint_0 rfl rfl ?_
  refine r_iconst (v := 0) B dX5_feint_1 (by decide) ?_
  obtain ⟨s1, e2, h⟩ := nam_e h
  refine pI5 (k := 0) B e2 rfl (fun z => by rw [(hS _ z).1 0 (by decide)]; rfl) rfl q1517 rfl rfl (fun _ _ _ => rfl) rfl dX5_feint_2 ?_
  refine r_aload_n (j := 0) B dX5_feint_5 rfl rfl ?_
  refine r_iload_n (j := 1) B dX5_feint_6 rfl rfl ?_
  obtain ⟨r3, s4, hc5, h⟩ := bnd_e h
  refine r_callVv (As := [vi p0]) (rest := []) B rfl rfl EX.same (c_X5_isCatcher B.ge hS hc5) (cw_X5_isCatcher rfl rfl) (fun z => RV.of 5 ((fun z => by rw [(hS _ z).1 0 (by decide)]; rfl) z) rfl rfl qs60) q1799 q1801 rfl dX5_feint_7 ?_
  refine r_if_eq (tgt := 25) B dX5_feint_10 (by decide) (fun cn6 => ?_) (fun cn6 => ?_)
  · have h := ot cn6 h
    refine r_ldc2 B dX5_feint_25 q1782 ?_
    exact r_lret B dX5_feint_28 h
  · have h := of cn6 h
    refine r_iload_n (j := 2) B dX5_feint_13 rfl rfl ?_
    refine r_i2l B dX5_feint_14 ?_
    refine r_lconst (v := 0) B dX5_feint_15 (by decide) ?_
    refine r_ldc2 B dX5_feint_16 q1833 ?_
    obtain ⟨r7, s8, hc9, h⟩ := bnd_e h
    refine r_callSv (As := [vl ((p1).toInt64), vl (0 : Int64), vl (5 : Int64)]) (rest := []) B rfl EX.same (c_X5_in B.ge hS hc9) (cw_X5_in rfl rfl) q1740 q1741 rfl dX5_feint_19 ?_
    refine r_if_ne (tgt := 29) B dX5_feint_22 (by decide) (fun cn10 => ?_) (fun cn10 => ?_)
    · have h := of cn10 h
      refine r_aload_n (j := 0) B dX5_feint_29 rfl rfl ?_
      obtain ⟨r11, s12, hc13, h⟩ := bnd_e h
      refine r_callV0 (As := []) (rest := []) B rfl rfl EX.same (c_X5_beginBest B.ge hS hc13) (cw_X5_beginBest rfl rfl) (fun z => RV.of 5 ((fun z => by rw [(hS _ z).1 0 (by decide)]; rfl) z) rfl rfl qs105) q2082 q2084 rfl dX5_feint_30 ?_
      refine r_aload_n (j := 0) B dX5_feint_33 rfl rfl ?_
      refine r_bipush (v := 96) B dX5_feint_34 (by decide) ?_
      obtain ⟨r14, s15, hc16, h⟩ := bnd_e h
      refine r_callV0 (As := [vi (96 : Int32)]) (rest := []) B rfl rfl EX.same (c_X5_keepCells B.ge hS hc16) (cw_X5_keepCells rfl rfl) (fun z => RV.of 5 ((fun z => by rw [(hS _ z).1 0 (by decide)]; rfl) z) rfl rfl qs103) q2070 q2072 rfl dX5_feint_36 ?_
      refine r_iconst (v := 0) B dX5_feint_39 (by decide) ?_
      refine r_istore_n (L' := [(0, vr (some 0)), (1, vi p0), (2, vi p1), (3, vi (0 : Int32))]) B dX5_feint_40 rfl (by decide) rfl rfl rfl ?_
      exact w_X5_feint_41 B hS FU s15 p0 p1 (0 : Int32) h
    · have h := ot cn10 h
      refine r_ldc2 B dX5_feint_25 q1782 ?_
      exact r_lret B dX5_feint_28 h
set_option maxHeartbeats 4000000 in
theorem cw_X5_feint {X : CX} {fr lo : Nat} (h1 : Nat.ble (11 + 1) fr = true) (h2 : Nat.ble (24 + 262) lo = true) : CW X fr lo yX5_feint cX5_feint 5 (some .long) 11 262 2 := ⟨q2109, q136, ⟨by decide +kernel, by decide +kernel, by decide +kernel⟩, Nat.le_of_ble_eq_true h1, Nat.le_of_ble_eq_true h2⟩

