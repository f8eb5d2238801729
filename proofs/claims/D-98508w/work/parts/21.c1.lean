set_option maxRecDepth 100000
def kC (a : Nat) : Kd := ([(0, 0), (100, 7), (1, 0), (100, 6), (100, 6), (100, 6), (100, 6), (100, 6), (100, 9), (100, 8), (18, 0), (104, 2), (105, 2), (100, 96), (100, 16), (100, 96), (100, 16), (100, 6), (100, 6), (102, 400), (2, 0), (3, 0), (101, 15), (4, 0), (100, 9), (100, 9), (106, 25), (100, 66), (100, 6), (100, 6), (100, 6)] : List Kd).getD a (99, 0)
def rC : List (Nat × Nat × Nat) := [(0, 1, 1), (0, 2, 2), (0, 3, 12), (0, 4, 13), (0, 5, 14), (0, 6, 15), (0, 7, 16), (0, 8, 17), (0, 9, 18), (0, 10, 19), (0, 16, 20), (0, 17, 23), (0, 18, 26), (0, 19, 27), (0, 21, 28), (0, 24, 29), (0, 25, 30), (2, 0, 3), (2, 1, 4), (2, 2, 5), (2, 3, 6), (2, 4, 7), (2, 5, 8), (2, 6, 9), (2, 7, 10), (20, 0, 21), (20, 1, 22), (23, 0, 24), (23, 1, 25), (23, 4, 0)]
/-- the system's cells that stay: RoseThrow (0), its state (2), setting (20), flight (23), their arrays -/
def SkC (σ : St) : Prop := (∀ a, a < 31 → sk σ a = kC a) ∧ ∀ q ∈ rC, sr σ q.1 q.2.1 = some q.2.2
set_option maxHeartbeats 4000000 in
noncomputable def F_J0_init (s : St) (this : Nat)  : Option (Unit × St) := some ((), s)
set_option maxHeartbeats 4000000 in
theorem c_J0_init {l : Launch} {E : EV} (hE : GE E) (h0 : ∀ σ, eSk E σ) {s s' : St} {r : Unit} {this : Nat}  (h : F_J0_init  s this = some (r, s')) : CT l E yJ0_init cJ0_init 1 none 1 20 [vr (some this)] s none s' := by
  refine CT.start hE (by decide) rfl [(0, vr (some this))] rfl (fun X hX B => ?_)
  skip
  have B : FX X E cJ0_init 1 none "java/util/AbstractCollection" "<init>" (sn s) (ss s) 1 20 := B
  unfold F_J0_init at h
  refine r_aload_n (j := 0) B dJ0_init_0 rfl rfl ?_
  refine r_objInit B rfl q187 q168 q169 (by decide) (by decide) rfl dJ0_init_1 ?_
  exact r_vret B dJ0_init_4 h
set_option maxHeartbeats 4000000 in
theorem cw_J0_init {X : CX} {fr lo : Nat} (h1 : Nat.ble (1 + 1) fr = true) (h2 : Nat.ble (20 + 20) lo = true) : CW X fr lo yJ0_init cJ0_init 1 none 1 20 0 := ⟨q186, q128, ⟨by decide +kernel, by decide +kernel, by decide +kernel⟩, Nat.le_of_ble_eq_true h1, Nat.le_of_ble_eq_true h2⟩

set_option maxHeartbeats 4000000 in
noncomputable def F_J1_init (s : St) (this : Nat)  : Option (Unit × St) := bnd (F_J0_init s this) fun _ s2 => gd (isK s2 this 18) <| nam (setI s2 this 0 (0 : Int32)) fun s5 => some ((), s5)
set_option maxHeartbeats 4000000 in
theorem c_J1_init {l : Launch} {E : EV} (hE : GE E) (h0 : ∀ σ, eSk E σ) {s s' : St} {r : Unit} {this : Nat}  (h : F_J1_init  s this = some (r, s')) : CT l E yJ1_init cJ1_init 1 none 2 40 [vr (some this)] s none s' := by
  refine CT.start hE (by decide) rfl [(0, vr (some this))] rfl (fun X hX B => ?_)
  skip
  have B : FX X E cJ1_init 1 none "java/util/AbstractList" "<init>" (sn s) (ss s) 2 40 := B
  unfold F_J1_init at h
  refine r_aload_n (j := 0) B dJ1_init_0 rfl rfl ?_
  obtain ⟨r1, s2, hc3, h⟩ := bnd_e h
  refine r_callI (As := []) (rest := []) B rfl rfl EX.same (c_J0_init B.ge h0 hc3) (cw_J0_init rfl rfl) rfl q184 q185 rfl dJ1_init_1 ?_
  refine r_aload_n (j := 0) B dJ1_init_4 rfl rfl ?_
  refine r_iconst (v := 0) B dJ1_init_5 (by decide) ?_
  obtain ⟨hg4, h⟩ := gd_e h
  obtain ⟨s5, e6, h⟩ := nam_e h
  refine pI18 (k := 0) B e6 rfl (fun _ => isK_e hg4) rfl q194 rfl rfl (fun _ _ _ => rfl) rfl dJ1_init_6 ?_
  exact r_vret B dJ1_init_9 h
set_option maxHeartbeats 4000000 in
theorem cw_J1_init {X : CX} {fr lo : Nat} (h1 : Nat.ble (2 + 1) fr = true) (h2 : Nat.ble (20 + 40) lo = true) : CW X fr lo yJ1_init cJ1_init 1 none 2 40 0 := ⟨q183, q129, ⟨by decide +kernel, by decide +kernel, by decide +kernel⟩, Nat.le_of_ble_eq_true h1, Nat.le_of_ble_eq_true h2⟩

set_option maxHeartbeats 4000000 in
noncomputable def F_J10_hugeLength (s : St) (p0 : Int32) (p1 : Int32) : Option (Int32 × St) := if 0 ≤ (p0 + p1) then (if (2147483639 : Int32) < (p0 + p1) then (some ((p0 + p1), s)) else (some ((2147483639 : Int32), s))) else (none)
set_option maxHeartbeats 4000000 in
theorem c_J10_hugeLength {l : Launch} {E : EV} (hE : GE E) (h0 : ∀ σ, eSk E σ) {s s' : St} {r : Int32} {p0 : Int32} {p1 : Int32} (h : F_J10_hugeLength  s p0 p1 = some (r, s')) : CT l E yJ10_hugeLength cJ10_hugeLength 3 (some .int) 0 0 [vi p0, vi p1] s (some (vi r)) s' := by
  refine CT.start hE (by decide) rfl [(0, vi p0), (1, vi p1)] rfl (fun X hX B => ?_)
  skip
  have B : FX X E cJ10_hugeLength 3 (some .int) "jdk/internal/util/ArraysSupport" "hugeLength" (sn s) (ss s) 0 0 := B
  unfold F_J10_hugeLength at h
  refine r_iload_n (j := 0) B dJ10_hugeLength_0 rfl rfl ?_
  refine r_iload_n (j := 1) B dJ10_hugeLength_1 rfl rfl ?_
  refine r_iadd B dJ10_hugeLength_2 ?_
  refine r_istore_n (L' := [(0, vi p0), (1, vi p1), (2, vi (p0 + p1))]) B dJ10_hugeLength_3 rfl (by decide) rfl rfl rfl ?_
  refine r_iload_n (j := 2) B dJ10_hugeLength_4 rfl rfl ?_
  refine r_if_ge (tgt := 49) B dJ10_hugeLength_5 (by decide) (fun cn1 => ?_) (fun cn1 => ?_)
  · have h := ot cn1 h
    refine r_iload_n (j := 2) B dJ10_hugeLength_49 rfl rfl ?_
    refine r_ldc B dJ10_hugeLength_50 q527 ?_
    refine r_ic_gt (tgt := 58) B dJ10_hugeLength_52 (by decide) (fun cn2 => ?_) (fun cn2 => ?_)
    · have h := ot cn2 h
      refine r_iload_n (j := 2) B dJ10_hugeLength_58 rfl rfl ?_
      exact r_iret B dJ10_hugeLength_59 h
    · have h := of cn2 h
      refine r_ldc B dJ10_hugeLength_55 q527 ?_
      exact r_iret B dJ10_hugeLength_57 h
  · have h := of cn1 h
    cases h
set_option maxHeartbeats 4000000 in
theorem cw_J10_hugeLength {X : CX} {fr lo : Nat} (h1 : Nat.ble (0 + 1) fr = true) (h2 : Nat.ble (22 + 0) lo = true) : CW X fr lo yJ10_hugeLength cJ10_hugeLength 3 (some .int) 0 0 2 := ⟨q530, q154, ⟨by decide +kernel, by decide +kernel, by decide +kernel⟩, Nat.le_of_ble_eq_true h1, Nat.le_of_ble_eq_true h2⟩

set_option maxHeartbeats 4000000 in
noncomputable def F_J10_newLength_21 (s : St) (x0 : Int32) (x1 : Int32) : Option (Int32 × St) := bnd (F_J10_hugeLength s x0 x1) fun r1 s2 => some (r1, s2)
set_option maxHeartbeats 4000000 in
theorem w_J10_newLength_21 {X : CX} {E : EV} {a0 s' : St} {r : Int32} (B : FX X E cJ10_newLength 4 (some .int) "jdk/internal/util/ArraysSupport" "newLength" (sn a0) (ss a0) 1 60) (h0 : ∀ σ, eSk E σ) (s : St) (x0 : Int32) (x1 : Int32) (h : F_J10_newLength_21   s x0 x1 = some (r, s')) : J X E (sn a0) (ss a0) 4 (QR X E a0 (some (vi r)) s') s 21 [(0, vi x0), (1, vi x1)] [] := by
  unfold F_J10_newLength_21 at h
  refine r_iload_n (j := 0) B dJ10_newLength_21 rfl rfl ?_
  refine r_iload_n (j := 1) B dJ10_newLength_22 rfl rfl ?_
  obtain ⟨r1, s2, hc3, h⟩ := bnd_e h
  refine r_callSv (As := [vi x0, vi x1]) (rest := []) B rfl EX.same (c_J10_hugeLength B.ge h0 hc3) (cw_J10_hugeLength rfl rfl) q528 q529 rfl dJ10_newLength_23 ?_
  exact r_iret B dJ10_newLength_26 h
set_option maxHeartbeats 4000000 in
noncomputable def F_J10_newLength (s : St) (p0 : Int32) (p1 : Int32) (p2 : Int32) : Option (Int32 × St) := nam (p0 + (if p1 < p2 then p2 else p1)) fun y1 => if y1 ≤ (0 : Int32) then (F_J10_newLength_21 s p0 p1) else (if (2147483639 : Int32) < y1 then (F_J10_newLength_21 s p0 p1) else (some (y1, s)))
set_option maxHeartbeats 4000000 in
theorem c_J10_newLength {l : Launch} {E : EV} (hE : GE E) (h0 : ∀ σ, eSk E σ) {s s' : St} {r : Int32} {p0 : Int32} {p1 : Int32} {p2 : Int32} (h : F_J10_newLength  s p0 p1 p2 = some (r, s')) : CT l E yJ10_newLength cJ10_newLength 4 (some .int) 1 60 [vi p0, vi p1, vi p2] s (some (vi r)) s' := by
  refine CT.start hE (by decide) rfl [(0, vi p0), (1, vi p1), (2, vi p2)] rfl (fun X hX B => ?_)
  skip
  have B : FX X E cJ10_newLength 4 (some .int) "jdk/internal/util/ArraysSupport" "newLength" (sn s) (ss s) 1 60 := B
  unfold F_J10_newLength at h
  refine r_iload_n (j := 0) B dJ10_newLength_0 rfl rfl ?_
  refine r_iload_n (j := 1) B dJ10_newLength_1 rfl rfl ?_
  refine r_iload_n (j := 2) B dJ10_newLength_2 rfl rfl ?_
  refine r_mmax B q524 q525 q155 q526 (by decide) (by decide) rfl dJ10_newLength_3 ?_
  refine r_iadd B dJ10_newLength_6 ?_
  obtain ⟨y1, e2, h⟩ := nam_e h
  refine r_topi e2 ?_
  refine r_istore_n (L' := [(0, vi p0), (1, vi p1), (2, vi p2), (3, vi y1)]) B dJ10_newLength_7 rfl (by decide) rfl rfl rfl ?_
  refine r_iconst (v := 0) B dJ10_newLength_8 (by decide) ?_
  refine r_iload_n (j := 3) B dJ10_newLength_9 rfl rfl ?_
  refine r_ic_ge (tgt := 21) B dJ10_newLength_10 (by decide) (fun cn3 => ?_) (fun cn3 => ?_)
  · have h := ot cn3 h
    refine r_pick [0, 1] (L' := [(0, vi p0), (1, vi p1)]) rfl ?_
    exact w_J10_newLength_21 B h0 s p0 p1 h
  · have h := of cn3 h
    refine r_iload_n (j := 3) B dJ10_newLength_13 rfl rfl ?_
    refine r_ldc B dJ10_newLength_14 q527 ?_
    refine r_ic_gt (tgt := 21) B dJ10_newLength_16 (by decide) (fun cn4 => ?_) (fun cn4 => ?_)
    · have h := ot cn4 h
      refine r_pick [0, 1] (L' := [(0, vi p0), (1, vi p1)]) rfl ?_
      exact w_J10_newLength_21 B h0 s p0 p1 h
    · have h := of cn4 h
      refine r_iload_n (j := 3) B dJ10_newLength_19 rfl rfl ?_
      exact r_iret B dJ10_newLength_20 h
set_option maxHeartbeats 4000000 in
theorem cw_J10_newLength {X : CX} {fr lo : Nat} (h1 : Nat.ble (1 + 1) fr = true) (h2 : Nat.ble (23 + 60) lo = true) : CW X fr lo yJ10_newLength cJ10_newLength 4 (some .int) 1 60 3 := ⟨q523, q154, ⟨by decide +kernel, by decide +kernel, by decide +kernel⟩, Nat.le_of_ble_eq_true h1, Nat.le_of_ble_eq_true h2⟩

set_option maxHeartbeats 4000000 in
noncomputable def F_J12_copyOf_2_24 (s : St) (x0 : Option Nat) (x1 : Int32) (z0 : Option Nat) : Option (Option Nat × St) := drf x0 fun a1 => gd (isK s a1 104) <| drf x0 fun a4 => gd (isK s a4 104) <| drf z0 fun a7 => gd (isK s a7 104) <| gd (okC (0 : Int32) (0 : Int32) (if x1 < (nI (sk s a1).2) then x1 else (nI (sk s a1).2)) (sk s a4).2 (sk s a7).2) <| gd (okE s a4 (0 : Int32).toNatClampNeg (if x1 < (nI (sk s a1).2) then x1 else (nI (sk s a1).2)).toNatClampNeg) <| nam (cpyR s a4 (0 : Int32).toNatClampNeg a7 (0 : Int32).toNatClampNeg (if x1 < (nI (sk s a1).2) then x1 else (nI (sk s a1).2)).toNatClampNeg) fun s12 => some (z0, s12)
set_option maxHeartbeats 4000000 in
theorem w_J12_copyOf_2_24 {X : CX} {E : EV} {a0 s' : St} {r : Option Nat} (B : FX X E cJ12_copyOf_2 4 (some (.array (.object "java/lang/Object"))) "java/util/Arrays" "copyOf" (sn a0) (ss a0) 1 60) (h0 : ∀ σ, eSk E σ) (s : St) (x0 : Option Nat) (x1 : Int32) (z0 : Option Nat) (h : F_J12_copyOf_2_24   s x0 x1 z0 = some (r, s')) : J X E (sn a0) (ss a0) 4 (QR X E a0 (some (vr r)) s') s 24 [(0, vr x0), (1, vi x1)] [vr z0] := by
  unfold F_J12_copyOf_2_24 at h
  refine r_astore_n (L' := [(0, vr x0), (1, vi x1), (3, vr z0)]) B dJ12_copyOf_2_24 rfl (by decide) rfl rfl rfl ?_
  refine r_aload_n (j := 0) B dJ12_copyOf_2_25 rfl rfl ?_
  refine r_iconst (v := 0) B dJ12_copyOf_2_26 (by decide) ?_
  refine r_aload_n (j := 2) B dJ12_copyOf_2_27 rfl rfl ?_
  refine r_iconst (v := 0) B dJ12_copyOf_2_28 (by decide) ?_
  refine r_aload_n (j := 0) B dJ12_copyOf_2_29 rfl rfl ?_
  obtain ⟨a1, ea2, h⟩ := drf_e h
  obtain ⟨hg3, h⟩ := gd_e h
  refine r_alen 4 (by decide) B ea2 (fun _ => isK_a hg3) dJ12_copyOf_2_30 ?_
  refine r_iload_n (j := 1) B dJ12_copyOf_2_31 rfl rfl ?_
  refine r_mmin B q511 q512 q155 q513 (by decide) (by decide) rfl dJ12_copyOf_2_32 ?_
  obtain ⟨a4, ea5, h⟩ := drf_e h
  obtain ⟨hg6, h⟩ := gd_e h
  obtain ⟨a7, ea8, h⟩ := drf_e h
  obtain ⟨hg9, h⟩ := gd_e h
  obtain ⟨hg10, h⟩ := gd_e h
  obtain ⟨hg11, h⟩ := gd_e h
  obtain ⟨s12, e13, h⟩ := nam_e h
  refine r_copyR B e13 ea5 ea8 (fun _ => isK_a hg6) (fun _ => isK_a hg9) hg10 hg11 (fun _ => h0 _) q514 q461 q460 q157 (by decide) (by decide) rfl dJ12_copyOf_2_35 ?_
  refine r_aload_n (j := 2) B dJ12_copyOf_2_38 rfl rfl ?_
  exact r_aret (Or.inr ⟨_, rfl⟩) B dJ12_copyOf_2_39 h
set_option maxHeartbeats 4000000 in
noncomputable def F_J12_copyOf_2 (s : St) (p0 : Option Nat) (p1 : Int32) (p2 : Option Nat) : Option (Option Nat × St) := gd (decide (p2 = (some 1000000905))) <| gd (okL p1) <| gd (okN s p1.toNatClampNeg) <| nam (newO s (104, p1.toNatClampNeg) p1.toNatClampNeg) fun s3 => F_J12_copyOf_2_24 s3 p0 p1 (some (sn s))
set_option maxHeartbeats 4000000 in
theorem c_J12_copyOf_2 {l : Launch} {E : EV} (hE : GE E) (h0 : ∀ σ, eSk E σ) {s s' : St} {r : Option Nat} {p0 : Option Nat} {p1 : Int32} {p2 : Option Nat} (h : F_J12_copyOf_2  s p0 p1 p2 = some (r, s')) : CT l E yJ12_copyOf_2 cJ12_copyOf_2 4 (some (.array (.object "java/lang/Object"))) 1 60 [vr p0, vi p1, vr p2] s (some (vr r)) s' := by
  refine CT.start hE (by decide) rfl [(0, vr p0), (1, vi p1), (2, vr p2)] rfl (fun X hX B => ?_)
  skip
  have B : FX X E cJ12_copyOf_2 4 (some (.array (.object "java/lang/Object"))) "java/util/Arrays" "copyOf" (sn s) (ss s) 1 60 := B
  unfold F_J12_copyOf_2 at h
  refine r_aload_n (j := 2) B dJ12_copyOf_2_0 rfl rfl ?_
  refine r_ldcM B q509 dJ12_copyOf_2_1 ?_
  obtain ⟨hg1, h⟩ := gd_e h
  refine r_ac_ne (tgt := 13) B dJ12_copyOf_2_3 (by decide) (of_decide_eq_true hg1) ?_
  refine r_iload_n (j := 1) B dJ12_copyOf_2_6 rfl rfl ?_
  obtain ⟨hg5, h⟩ := gd_e h
  obtain ⟨hg2, h⟩ := gd_e h
  obtain ⟨s3, e4, h⟩ := nam_e h
  refine r_newq 4 "java/lang/Object" ⟨by decide, by decide, rfl⟩ B (okL_e hg5).1 (N := p1.toNatClampNeg) rfl (okL_e hg5).2 e4 hg2 q510 (fun _ => h0 _) dJ12_copyOf_2_7 ?_
  refine r_goto (tgt := 24) B dJ12_copyOf_2_10 (by decide) ?_
  refine r_pick [0, 1] (L' := [(0, vr p0), (1, vi p1)]) rfl ?_
  exact w_J12_copyOf_2_24 B h0 s3 p0 p1 (some (sn s)) h
set_option maxHeartbeats 4000000 in
theorem cw_J12_copyOf_2 {X : CX} {fr lo : Nat} (h1 : Nat.ble (1 + 1) fr = true) (h2 : Nat.ble (23 + 60) lo = true) : CW X fr lo yJ12_copyOf_2 cJ12_copyOf_2 4 (some (.array (.object "java/lang/Object"))) 1 60 3 := ⟨q508, q156, ⟨by decide +kernel, by decide +kernel, by decide +kernel⟩, Nat.le_of_ble_eq_true h1, Nat.le_of_ble_eq_true h2⟩

set_option maxHeartbeats 4000000 in
noncomputable def F_J12_copyOf (s : St) (p0 : Option Nat) (p1 : Int32) : Option (Option Nat × St) := drf p0 fun a1 => gd (isK s a1 104) <| bnd (F_J12_copyOf_2 s p0 p1 (some 1000000905)) fun r4 s5 => some (r4, s5)
set_option maxHeartbeats 4000000 in
theorem c_J12_copyOf {l : Launch} {E : EV} (hE : GE E) (h0 : ∀ σ, eSk E σ) {s s' : St} {r : Option Nat} {p0 : Option Nat} {p1 : Int32} (h : F_J12_copyOf  s p0 p1 = some (r, s')) : CT l E yJ12_copyOf cJ12_copyOf 2 (some (.array (.object "java/lang/Object"))) 2 83 [vr p0, vi p1] s (some (vr r)) s' := by
  refine CT.start hE (by decide) rfl [(0, vr p0), (1, vi p1)] rfl (fun X hX B => ?_)
  skip
  have B : FX X E cJ12_copyOf 2 (some (.array (.object "java/lang/Object"))) "java/util/Arrays" "copyOf" (sn s) (ss s) 2 83 := B
  unfold F_J12_copyOf at h
  refine r_aload_n (j := 0) B dJ12_copyOf_0 rfl rfl ?_
  refine r_iload_n (j := 1) B dJ12_copyOf_1 rfl rfl ?_
  refine r_aload_n (j := 0) B dJ12_copyOf_2 rfl rfl ?_
  obtain ⟨a1, ea2, h⟩ := drf_e h
  obtain ⟨hg3, h⟩ := gd_e h
  refine r_getC B ea2 (fun _ => isK_a hg3) q483 (by decide) (by decide) rfl dJ12_copyOf_3 ?_
  obtain ⟨r4, s5, hc6, h⟩ := bnd_e h
  refine r_callSv (As := [vr p0, vi p1, vr (some 1000000905)]) (rest := []) B rfl EX.same (c_J12_copyOf_2 B.ge h0 hc6) (cw_J12_copyOf_2 rfl rfl) q506 q507 rfl dJ12_copyOf_6 ?_
  exact r_aret (Or.inr ⟨_, rfl⟩) B dJ12_copyOf_9 h
set_option maxHeartbeats 4000000 in
theorem cw_J12_copyOf {X : CX} {fr lo : Nat} (h1 : Nat.ble (2 + 1) fr = true) (h2 : Nat.ble (21 + 83) lo = true) : CW X fr lo yJ12_copyOf cJ12_copyOf 2 (some (.array (.object "java/lang/Object"))) 2 83 2 := ⟨q482, q156, ⟨by decide +kernel, by decide +kernel, by decide +kernel⟩, Nat.le_of_ble_eq_true h1, Nat.le_of_ble_eq_true h2⟩

set_option maxHeartbeats 4000000 in
noncomputable def F_J13_signum (s : St) (p0 : Int32) : Option (Int32 × St) := some (((p0 >>> ((31 : Int32) &&& 31)) ||| (((-p0)).toUInt32 >>> (((31 : Int32)).toUInt32 &&& Int32.toUInt32 31)).toInt32), s)
set_option maxHeartbeats 4000000 in
theorem c_J13_signum {l : Launch} {E : EV} (hE : GE E) (h0 : ∀ σ, eSk E σ) {s s' : St} {r : Int32} {p0 : Int32} (h : F_J13_signum  s p0 = some (r, s')) : CT l E yJ13_signum cJ13_signum 1 (some .int) 0 0 [vi p0] s (some (vi r)) s' := by
  refine CT.start hE (by decide) rfl [(0, vi p0)] rfl (fun X hX B => ?_)
  skip
  have B : FX X E cJ13_signum 1 (some .int) "java/lang/Integer" "signum" (sn s) (ss s) 0 0 := B
  unfold F_J13_signum at h
  refine r_iload_n (j := 0) B dJ13_signum_0 rfl rfl ?_
  refine r_bipush (v := 31) B dJ13_signum_1 (by decide) ?_
  refine r_ishr B dJ13_signum_3 ?_
  refine r_iload_n (j := 0) B dJ13_signum_4 rfl rfl ?_
  refine r_ineg B dJ13_signum_5 ?_
  refine r_bipush (v := 31) B dJ13_signum_6 (by decide) ?_
  refine r_iushr B dJ13_signum_8 rfl ?_
  refine r_ior B dJ13_signum_9 ?_
  exact r_iret B dJ13_signum_10 h
set_option maxHeartbeats 4000000 in
theorem cw_J13_signum {X : CX} {fr lo : Nat} (h1 : Nat.ble (0 + 1) fr = true) (h2 : Nat.ble (20 + 0) lo = true) : CW X fr lo yJ13_signum cJ13_signum 1 (some .int) 0 0 1 := ⟨q1244, q161, ⟨by decide +kernel, by decide +kernel, by decide +kernel⟩, Nat.le_of_ble_eq_true h1, Nat.le_of_ble_eq_true h2⟩

set_option maxHeartbeats 4000000 in
noncomputable def F_J2_init (s : St) (this : Nat) (p0 : Int32) : Option (Unit × St) := bnd (F_J1_init s this) fun _ s2 => if p0 ≤ 0 then (if p0 = 0 then (gd (isK s2 this 18) <| nam (setR s2 this 1 (some 1000000902)) fun s7 => some ((), s7)) else (none)) else (gd (okL p0) <| gd (okN s2 p0.toNatClampNeg) <| nam (newO s2 (104, p0.toNatClampNeg) p0.toNatClampNeg) fun s10 => gd (isK s10 this 18) <| nam (setR s10 this 1 (some (sn s2))) fun s14 => some ((), s14))
set_option maxHeartbeats 4000000 in
theorem c_J2_init {l : Launch} {E : EV} (hE : GE E) (h0 : ∀ σ, eSk E σ) {s s' : St} {r : Unit} {this : Nat} {p0 : Int32} (h : F_J2_init  s this p0 = some (r, s')) : CT l E yJ2_init cJ2_init 2 none 3 60 [vr (some this), vi p0] s none s' := by
  refine CT.start hE (by decide) rfl [(0, vr (some this)), (1, vi p0)] rfl (fun X hX B => ?_)
  skip
  have B : FX X E cJ2_init 2 none "java/util/ArrayList" "<init>" (sn s) (ss s) 3 60 := B
  unfold F_J2_init at h
  refine r_aload_n (j := 0) B dJ2_init_0 rfl rfl ?_
  obtain ⟨r1, s2, hc3, h⟩ := bnd_e h
  refine r_callI (As := []) (rest := []) B rfl rfl EX.same (c_J1_init B.ge h0 hc3) (cw_J1_init rfl rfl) rfl q181 q182 rfl dJ2_init_1 ?_
  refine r_iload_n (j := 1) B dJ2_init_4 rfl rfl ?_
  refine r_if_le (tgt := 19) B dJ2_init_5 (by decide) (fun cn4 => ?_) (fun cn4 => ?_)
  · have h := ot cn4 h
    refine r_iload_n (j := 1) B dJ2_init_19 rfl rfl ?_
    refine r_if_ne (tgt := 33) B dJ2_init_20 (by decide) (fun cn5 => ?_) (fun cn5 => ?_)
    · have h := of cn5 h
      cases h
    · have h := ot cn5 h
      refine r_aload_n (j := 0) B dJ2_init_23 rfl rfl ?_
      refine r_gets 2 B rfl q190 dJ2_init_24 ?_
      obtain ⟨hg6, h⟩ := gd_e h
      obtain ⟨s7, e8, h⟩ := nam_e h
      refine pR18 (k := 1) B e8 rfl (fun _ => isK_e hg6) rfl q192 rfl rfl (Or.inr ⟨_, rfl⟩) (fun _ => h0 _) dJ2_init_27 ?_
      refine r_goto (tgt := 60) B dJ2_init_30 (by decide) ?_
      exact r_vret B dJ2_init_60 h
  · have h := of cn4 h
    refine r_aload_n (j := 0) B dJ2_init_8 rfl rfl ?_
    refine r_iload_n (j := 1) B dJ2_init_9 rfl rfl ?_
    obtain ⟨hg12, h⟩ := gd_e h
    obtain ⟨hg9, h⟩ := gd_e h
    obtain ⟨s10, e11, h⟩ := nam_e h
    refine r_newq 4 "java/lang/Object" ⟨by decide, by decide, rfl⟩ B (okL_e hg12).1 (N := p0.toNatClampNeg) rfl (okL_e hg12).2 e11 hg9 q188 (fun _ => h0 _) dJ2_init_10 ?_
    obtain ⟨hg13, h⟩ := gd_e h
    obtain ⟨s14, e15, h⟩ := nam_e h
    refine pR18 (k := 1) B e15 rfl (fun _ => isK_e hg13) rfl q192 rfl rfl (Or.inr ⟨_, rfl⟩) (fun _ => h0 _) dJ2_init_13 ?_
    refine r_goto (tgt := 60) B dJ2_init_16 (by decide) ?_
    exact r_vret B dJ2_init_60 h
set_option maxHeartbeats 4000000 in
theorem cw_J2_init {X : CX} {fr lo : Nat} (h1 : Nat.ble (3 + 1) fr = true) (h2 : Nat.ble (21 + 60) lo = true) : CW X fr lo yJ2_init cJ2_init 2 none 3 60 1 := ⟨q180, q130, ⟨by decide +kernel, by decide +kernel, by decide +kernel⟩, Nat.le_of_ble_eq_true h1, Nat.le_of_ble_eq_true h2⟩

set_option maxHeartbeats 4000000 in
noncomputable def F_J2_clear_27 : Nat → St → Option Nat → Int32 → Int32 → Option (Unit × St)
  | 0 => fun _ _ _ _ => none
  | n + 1 => fun s x1 x2 x3 => if x2 ≤ x3 then (some ((), s)) else (drf x1 fun a2 => gd (isK s a2 104) <| gd (inb x3 (sk s a2).2) <| nam (setR s a2 x3.toNatClampNeg none) fun s6 => F_J2_clear_27  n s6 x1 x2 (x3 + (1)))
set_option maxHeartbeats 4000000 in
theorem w_J2_clear_27 {X : CX} {E : EV} {a0 s' : St} {r : Unit} (B : FX X E cJ2_clear 4 none "java/util/ArrayList" "clear" (sn a0) (ss a0) 0 0) (h0 : ∀ σ, eSk E σ) : ∀ (n : Nat) (s : St) (x1 : Option Nat) (x2 : Int32) (x3 : Int32), F_J2_clear_27   n s x1 x2 x3 = some (r, s') → J X E (sn a0) (ss a0) 4 (QR X E a0 none s') s 27 [(1, vr x1), (2, vi x2), (3, vi x3)] [] := by
  intro n
  induction n with
  | zero => intro s x1 x2 x3 h; exact absurd (show (none : Option (Unit × St)) = _ from h) (by simp)
  | succ n ih =>
    intro s x1 x2 x3 h
    rw [F_J2_clear_27] at h
    refine r_iload_n (j := 2) B dJ2_clear_27 rfl rfl ?_
    refine r_iload_n (j := 1) B dJ2_clear_28 rfl rfl ?_
    refine r_ic_ge (tgt := 42) B dJ2_clear_29 (by decide) (fun cn1 => ?_) (fun cn1 => ?_)
    · have h := ot cn1 h
      exact r_vret B dJ2_clear_42 h
    · have h := of cn1 h
      refine r_aload_n (j := 0) B dJ2_clear_32 rfl rfl ?_
      refine r_iload_n (j := 2) B dJ2_clear_33 rfl rfl ?_
      refine r_null B dJ2_clear_34 ?_
      obtain ⟨a2, ea3, h⟩ := drf_e h
      obtain ⟨hg4, h⟩ := gd_e h
      obtain ⟨hg5, h⟩ := gd_e h
      obtain ⟨s6, e7, h⟩ := nam_e h
      refine r_aastN 4 "java/lang/Object" ⟨by decide, by decide, rfl⟩ B e7 ea3 (fun _ => isK_a hg4) hg5 rfl (fun _ => h0 _) dJ2_clear_35 ?_
      refine r_iinc (j := 2) (v := (x3 + (1))) (L' := [(1, vr x1), (2, vi x2), (3, vi (x3 + (1)))]) B dJ2_clear_36 rfl rfl (by decide) rfl rfl rfl ?_
      refine r_goto (tgt := 27) B dJ2_clear_39 (by decide) ?_
      exact ih s6 x1 x2 (x3 + (1)) h
set_option maxHeartbeats 4000000 in
noncomputable def F_J2_clear (s : St) (this : Nat)  : Option (Unit × St) := gd (isK s this 18) <| gd (isK s this 18) <| nam (setI s this 0 ((si s this 0) + (1 : Int32))) fun s3 => gd (isK s3 this 18) <| gd (isK s3 this 18) <| gd (isK s3 this 18) <| nam (setI s3 this 2 (0 : Int32)) fun s8 => F_J2_clear_27 FU s8 (sr s3 this 1) (si s3 this 2) (0 : Int32)
set_option maxHeartbeats 4000000 in
theorem c_J2_clear {l : Launch} {E : EV} (hE : GE E) (h0 : ∀ σ, eSk E σ) {s s' : St} {r : Unit} {this : Nat}  (h : F_J2_clear  s this = some (r, s')) : CT l E yJ2_clear cJ2_clear 4 none 0 0 [vr (some this)] s none s' := by
  refine CT.start hE (by decide) rfl [(0, vr (some this))] rfl (fun X hX B => ?_)
  skip
  have B : FX X E cJ2_clear 4 none "java/util/ArrayList" "clear" (sn s) (ss s) 0 0 := B
  unfold F_J2_clear at h
  refine r_aload_n (j := 0) B dJ2_clear_0 rfl rfl ?_
  refine r_dup B dJ2_clear_1 rfl ?_
  obtain ⟨hg1, h⟩ := gd_e h
  refine g18S (k := 0) B (vi (si s this 0)) rfl (fun _ => isK_e hg1) rfl q195 q196 (fun _ => rfl) dJ2_clear_2 ?_
  refine r_iconst (v := 1) B dJ2_clear_5 (by decide) ?_
  refine r_iadd B dJ2_clear_6 ?_
  obtain ⟨hg2, h⟩ := gd_e h
  obtain ⟨s3, e4, h⟩ := nam_e h
  refine pI18S (k := 0) B e4 rfl (fun _ => isK_e hg2) rfl q195 q196 rfl (fun _ _ _ => rfl) rfl dJ2_clear_7 ?_
  refine r_aload_n (j := 0) B dJ2_clear_10 rfl rfl ?_
  obtain ⟨hg5, h⟩ := gd_e h
  refine g18 (k := 1) B (vr (sr s3 this 1)) rfl (fun _ => isK_e hg5) rfl q192 rfl (fun _ => rfl) dJ2_clear_11 ?_
  refine r_astore_n (L' := [(0, vr (some this)), (1, vr (sr s3 this 1))]) B dJ2_clear_14 rfl (by decide) rfl rfl rfl ?_
  refine r_aload_n (j := 0) B dJ2_clear_15 rfl rfl ?_
  obtain ⟨hg6, h⟩ := gd_e h
  refine g18 (k := 2) B (vi (si s3 this 2)) rfl (fun _ => isK_e hg6) rfl q193 rfl (fun _ => rfl) dJ2_clear_16 ?_
  refine r_istore_n (L' := [(0, vr (some this)), (1, vr (sr s3 this 1)), (2, vi (si s3 this 2))]) B dJ2_clear_19 rfl (by decide) rfl rfl rfl ?_
  refine r_aload_n (j := 0) B dJ2_clear_20 rfl rfl ?_
  refine r_iconst (v := 0) B dJ2_clear_21 (by decide) ?_
  refine r_dup_x1 B dJ2_clear_22 rfl rfl ?_
  obtain ⟨hg7, h⟩ := gd_e h
  obtain ⟨s8, e9, h⟩ := nam_e h
  refine pI18 (k := 2) B e9 rfl (fun _ => isK_e hg7) rfl q193 rfl rfl (fun _ _ _ => rfl) rfl dJ2_clear_23 ?_
  refine r_istore_n (L' := [(0, vr (some this)), (1, vr (sr s3 this 1)), (2, vi (si s3 this 2)), (3, vi (0 : Int32))]) B dJ2_clear_26 rfl (by decide) rfl rfl rfl ?_
  refine r_pick [1, 2, 3] (L' := [(1, vr (sr s3 this 1)), (2, vi (si s3 this 2)), (3, vi (0 : Int32))]) rfl ?_
  exact w_J2_clear_27 B h0 FU s8 (sr s3 this 1) (si s3 this 2) (0 : Int32) h
set_option maxHeartbeats 4000000 in
theorem cw_J2_clear {X : CX} {fr lo : Nat} (h1 : Nat.ble (0 + 1) fr = true) (h2 : Nat.ble (23 + 0) lo = true) : CW X fr lo yJ2_clear cJ2_clear 4 none 0 0 0 := ⟨q465, q130, ⟨by decide +kernel, by decide +kernel, by decide +kernel⟩, Nat.le_of_ble_eq_true h1, Nat.le_of_ble_eq_true h2⟩

set_option maxHeartbeats 4000000 in
noncomputable def F_J2_toArray (s : St) (this : Nat)  : Option (Option Nat × St) := gd (isK s this 18) <| gd (isK s this 18) <| bnd (F_J12_copyOf s (sr s this 1) (si s this 2)) fun r3 s4 => some (r3, s4)
set_option maxHeartbeats 4000000 in
theorem c_J2_toArray {l : Launch} {E : EV} (hE : GE E) (h0 : ∀ σ, eSk E σ) {s s' : St} {r : Option Nat} {this : Nat}  (h : F_J2_toArray  s this = some (r, s')) : CT l E yJ2_toArray cJ2_toArray 1 (some (.array (.object "java/lang/Object"))) 3 104 [vr (some this)] s (some (vr r)) s' := by
  refine CT.start hE (by decide) rfl [(0, vr (some this))] rfl (fun X hX B => ?_)
  skip
  have B : FX X E cJ2_toArray 1 (some (.array (.object "java/lang/Object"))) "java/util/ArrayList" "toArray" (sn s) (ss s) 3 104 := B
  unfold F_J2_toArray at h
  refine r_aload_n (j := 0) B dJ2_toArray_0 rfl rfl ?_
  obtain ⟨hg1, h⟩ := gd_e h
  refine g18 (k := 1) B (vr (sr s this 1)) rfl (fun _ => isK_e hg1) rfl q192 rfl (fun _ => rfl) dJ2_toArray_1 ?_
  refine r_aload_n (j := 0) B dJ2_toArray_4 rfl rfl ?_
  obtain ⟨hg2, h⟩ := gd_e h
  refine g18 (k := 2) B (vi (si s this 2)) rfl (fun _ => isK_e hg2) rfl q193 rfl (fun _ => rfl) dJ2_toArray_5 ?_
  obtain ⟨r3, s4, hc5, h⟩ := bnd_e h
  refine r_callSv (As := [vr (sr s this 1), vi (si s this 2)]) (rest := []) B rfl EX.same (c_J12_copyOf B.ge h0 hc5) (cw_J12_copyOf rfl rfl) q480 q481 rfl dJ2_toArray_8 ?_
  exact r_aret (Or.inr ⟨_, rfl⟩) B dJ2_toArray_11 h
set_option maxHeartbeats 4000000 in
theorem cw_J2_toArray {X : CX} {fr lo : Nat} (h1 : Nat.ble (3 + 1) fr = true) (h2 : Nat.ble (20 + 104) lo = true) : CW X fr lo yJ2_toArray cJ2_toArray 1 (some (.array (.object "java/lang/Object"))) 3 104 0 := ⟨q479, q130, ⟨by decide +kernel, by decide +kernel, by decide +kernel⟩, Nat.le_of_ble_eq_true h1, Nat.le_of_ble_eq_true h2⟩

set_option maxHeartbeats 4000000 in
noncomputable def F_J2_grow_20 (s : St) (x0 : Option Nat) (x1 : Int32) (x2 : Int32) : Option (Option Nat × St) := bnd (F_J10_newLength s x2 (x1 - x2) (x2 >>> ((1 : Int32) &&& 31))) fun r1 s2 => drf x0 fun a4 => gd (isK s2 a4 18) <| bnd (F_J12_copyOf s2 (sr s2 a4 1) r1) fun r7 s8 => drf x0 fun a10 => gd (isK s8 a10 18) <| nam (setR s8 a10 1 r7) fun s13 => some (r7, s13)
set_option maxHeartbeats 4000000 in
theorem w_J2_grow_20 {X : CX} {E : EV} {a0 s' : St} {r : Option Nat} (B : FX X E cJ2_grow 4 (some (.array (.object "java/lang/Object"))) "java/util/ArrayList" "grow" (sn a0) (ss a0) 3 104) (h0 : ∀ σ, eSk E σ) (s : St) (x0 : Option Nat) (x1 : Int32) (x2 : Int32) (h : F_J2_grow_20   s x0 x1 x2 = some (r, s')) : J X E (sn a0) (ss a0) 4 (QR X E a0 (some (vr r)) s') s 20 [(0, vr x0), (1, vi x1), (2, vi x2)] [] := by
  unfold F_J2_grow_20 at h
  refine r_iload_n (j := 2) B dJ2_grow_20 rfl rfl ?_
  refine r_iload_n (j := 1) B dJ2_grow_21 rfl rfl ?_
  refine r_iload_n (j := 2) B dJ2_grow_22 rfl rfl ?_
  refine r_isub B dJ2_grow_23 ?_
  refine r_iload_n (j := 2) B dJ2_grow_24 rfl rfl ?_
  refine r_iconst (v := 1) B dJ2_grow_25 (by decide) ?_
  refine r_ishr B dJ2_grow_26 ?_
  obtain ⟨r1, s2, hc3, h⟩ := bnd_e h
  refine r_callSv (As := [vi x2, vi (x1 - x2), vi (x2 >>> ((1 : Int32) &&& 31))]) (rest := []) B rfl EX.same (c_J10_newLength B.ge h0 hc3) (cw_J10_newLength rfl rfl) q521 q522 rfl dJ2_grow_27 ?_
  refine r_istore_n (L' := [(0, vr x0), (1, vi x1), (2, vi x2), (3, vi r1)]) B dJ2_grow_30 rfl (by decide) rfl rfl rfl ?_
  refine r_aload_n (j := 0) B dJ2_grow_31 rfl rfl ?_
  refine r_aload_n (j := 0) B dJ2_grow_32 rfl rfl ?_
  obtain ⟨a4, ea5, h⟩ := drf_e h
  obtain ⟨hg6, h⟩ := gd_e h
  refine g18 (k := 1) B (vr (sr s2 a4 1)) ea5 (fun _ => isK_e hg6) rfl q192 rfl (fun _ => rfl) dJ2_grow_33 ?_
  refine r_iload_n (j := 3) B dJ2_grow_36 rfl rfl ?_
  obtain ⟨r7, s8, hc9, h⟩ := bnd_e h
  refine r_callSv (As := [vr (sr s2 a4 1), vi r1]) (rest := [vr x0]) B rfl EX.same (c_J12_copyOf B.ge h0 hc9) (cw_J12_copyOf rfl rfl) q480 q481 rfl dJ2_grow_37 ?_
  refine r_dup_x1 B dJ2_grow_40 rfl rfl ?_
  obtain ⟨a10, ea11, h⟩ := drf_e h
  obtain ⟨hg12, h⟩ := gd_e h
  obtain ⟨s13, e14, h⟩ := nam_e h
  refine pR18 (k := 1) B e14 ea11 (fun _ => isK_e hg12) rfl q192 rfl rfl (Or.inr ⟨_, rfl⟩) (fun _ => h0 _) dJ2_grow_41 ?_
  exact r_aret (Or.inr ⟨_, rfl⟩) B dJ2_grow_44 h
set_option maxHeartbeats 4000000 in
noncomputable def F_J2_grow (s : St) (this : Nat) (p0 : Int32) : Option (Option Nat × St) := gd (isK s this 18) <| drf (sr s this 1) fun a2 => gd (isK s a2 104) <| if 0 < (nI (sk s a2).2) then (F_J2_grow_20 s (some this) p0 (nI (sk s a2).2)) else (gd (isK s this 18) <| gd (decide ((sr s this 1) = (some 1000000903))) <| none)
set_option maxHeartbeats 4000000 in
theorem c_J2_grow {l : Launch} {E : EV} (hE : GE E) (h0 : ∀ σ, eSk E σ) {s s' : St} {r : Option Nat} {this : Nat} {p0 : Int32} (h : F_J2_grow  s this p0 = some (r, s')) : CT l E yJ2_grow cJ2_grow 4 (some (.array (.object "java/lang/Object"))) 3 104 [vr (some this), vi p0] s (some (vr r)) s' := by
  refine CT.start hE (by decide) rfl [(0, vr (some this)), (1, vi p0)] rfl (fun X hX B => ?_)
  skip
  have B : FX X E cJ2_grow 4 (some (.array (.object "java/lang/Object"))) "java/util/ArrayList" "grow" (sn s) (ss s) 3 104 := B
  unfold F_J2_grow at h
  refine r_aload_n (j := 0) B dJ2_grow_0 rfl rfl ?_
  obtain ⟨hg1, h⟩ := gd_e h
  refine g18 (k := 1) B (vr (sr s this 1)) rfl (fun _ => isK_e hg1) rfl q192 rfl (fun _ => rfl) dJ2_grow_1 ?_
  obtain ⟨a2, ea3, h⟩ := drf_e h
  obtain ⟨hg4, h⟩ := gd_e h
  refine r_alen 4 (by decide) B ea3 (fun _ => isK_a hg4) dJ2_grow_4 ?_
  refine r_istore_n (L' := [(0, vr (some this)), (1, vi p0), (2, vi (nI (sk s a2).2))]) B dJ2_grow_5 rfl (by decide) rfl rfl rfl ?_
  refine r_iload_n (j := 2) B dJ2_grow_6 rfl rfl ?_
  refine r_if_gt (tgt := 20) B dJ2_grow_7 (by decide) (fun cn5 => ?_) (fun cn5 => ?_)
  · have h := ot cn5 h
    exact w_J2_grow_20 B h0 s (some this) p0 (nI (sk s a2).2) h
  · have h := of cn5 h
    refine r_aload_n (j := 0) B dJ2_grow_10 rfl rfl ?_
    obtain ⟨hg6, h⟩ := gd_e h
    refine g18 (k := 1) B (vr (sr s this 1)) rfl (fun _ => isK_e hg6) rfl q192 rfl (fun _ => rfl) dJ2_grow_11 ?_
    refine r_gets 3 B rfl q519 dJ2_grow_14 ?_
    have h := (gd_e h).2
    cases h
set_option maxHeartbeats 4000000 in
theorem cw_J2_grow {X : CX} {fr lo : Nat} (h1 : Nat.ble (3 + 1) fr = true) (h2 : Nat.ble (23 + 104) lo = true) : CW X fr lo yJ2_grow cJ2_grow 4 (some (.array (.object "java/lang/Object"))) 3 104 1 := ⟨q518, q130, ⟨by decide +kernel, by decide +kernel, by decide +kernel⟩, Nat.le_of_ble_eq_true h1, Nat.le_of_ble_eq_true h2⟩

set_option maxHeartbeats 4000000 in
noncomputable def F_J2_addAll_56 (s : St) (x0 : Option Nat) (x2 : Option Nat) (x3 : Int32) (x4 : Option Nat) (x5 : Int32) : Option (Int32 × St) := drf x2 fun a1 => gd (isK s a1 104) <| drf x4 fun a4 => gd (isK s a4 104) <| gd (okC (0 : Int32) x5 x3 (sk s a1).2 (sk s a4).2) <| gd (okE s a1 (0 : Int32).toNatClampNeg x3.toNatClampNeg) <| nam (cpyR s a1 (0 : Int32).toNatClampNeg a4 x5.toNatClampNeg x3.toNatClampNeg) fun s9 => drf x0 fun a11 => gd (isK s9 a11 18) <| nam (setI s9 a11 2 (x5 + x3)) fun s14 => some ((1 : Int32), s14)
set_option maxHeartbeats 4000000 in
theorem w_J2_addAll_56 {X : CX} {E : EV} {a0 s' : St} {r : Int32} (B : FX X E cJ2_addAll 6 (some .boolean) "java/util/ArrayList" "addAll" (sn a0) (ss a0) 4 127) (h0 : ∀ σ, eSk E σ) (s : St) (x0 : Option Nat) (x2 : Option Nat) (x3 : Int32) (x4 : Option Nat) (x5 : Int32) (h : F_J2_addAll_56   s x0 x2 x3 x4 x5 = some (r, s')) : J X E (sn a0) (ss a0) 6 (QR X E a0 (some (vi r)) s') s 56 [(0, vr x0), (2, vr x2), (3, vi x3), (4, vr x4), (5, vi x5)] [] := by
  unfold F_J2_addAll_56 at h
  refine r_aload_n (j := 1) B dJ2_addAll_56 rfl rfl ?_
  refine r_iconst (v := 0) B dJ2_addAll_57 (by decide) ?_
  refine r_aload (j := 3) B dJ2_addAll_58 rfl ?_
  refine r_iload (j := 4) B dJ2_addAll_60 rfl ?_
  refine r_iload_n (j := 2) B dJ2_addAll_62 rfl rfl ?_
  obtain ⟨a1, ea2, h⟩ := drf_e h
  obtain ⟨hg3, h⟩ := gd_e h
  obtain ⟨a4, ea5, h⟩ := drf_e h
  obtain ⟨hg6, h⟩ := gd_e h
  obtain ⟨hg7, h⟩ := gd_e h
  obtain ⟨hg8, h⟩ := gd_e h
  obtain ⟨s9, e10, h⟩ := nam_e h
  refine r_copyR B e10 ea2 ea5 (fun _ => isK_a hg3) (fun _ => isK_a hg6) hg7 hg8 (fun _ => h0 _) q532 q461 q460 q157 (by decide) (by decide) rfl dJ2_addAll_63 ?_
  refine r_aload_n (j := 0) B dJ2_addAll_66 rfl rfl ?_
  refine r_iload (j := 4) B dJ2_addAll_67 rfl ?_
  refine r_iload_n (j := 2) B dJ2_addAll_69 rfl rfl ?_
  refine r_iadd B dJ2_addAll_70 ?_
  obtain ⟨a11, ea12, h⟩ := drf_e h
  obtain ⟨hg13, h⟩ := gd_e h
  obtain ⟨s14, e15, h⟩ := nam_e h
  refine pI18 (k := 2) B e15 ea12 (fun _ => isK_e hg13) rfl q193 rfl rfl (fun _ _ _ => rfl) rfl dJ2_addAll_71 ?_
  refine r_iconst (v := 1) B dJ2_addAll_74 (by decide) ?_
  exact r_zret B dJ2_addAll_75 (by decide) h
set_option maxHeartbeats 4000000 in
noncomputable def F_J2_addAll (s : St) (this : Nat) (p0 : Option Nat) : Option (Int32 × St) := drf p0 fun a1 => gd (isK s a1 18) <| bnd (F_J2_toArray s a1) fun r4 s5 => gd (isK s5 this 18) <| gd (isK s5 this 18) <| nam (setI s5 this 0 ((si s5 this 0) + (1 : Int32))) fun s9 => drf r4 fun a11 => gd (isK s9 a11 104) <| if (nI (sk s9 a11).2) = 0 then (some ((0 : Int32), s9)) else (gd (isK s9 this 18) <| drf (sr s9 this 1) fun a16 => gd (isK s9 a16 104) <| gd (isK s9 this 18) <| if (nI (sk s9 a11).2) ≤ ((nI (sk s9 a16).2) - (si s9 this 2)) then (F_J2_addAll_56 s9 (some this) r4 (nI (sk s9 a11).2) (sr s9 this 1) (si s9 this 2)) else (gd (isK s9 this 18) <| bnd (F_J2_grow s9 this ((si s9 this 2) + (nI (sk s9 a11).2))) fun r22 s23 => F_J2_addAll_56 s23 (some this) r4 (nI (sk s9 a11).2) r22 (si s9 this 2)))
set_option maxHeartbeats 4000000 in
theorem c_J2_addAll {l : Launch} {E : EV} (hE : GE E) (h0 : ∀ σ, eSk E σ) {s s' : St} {r : Int32} {this : Nat} {p0 : Option Nat} (h : F_J2_addAll  s this p0 = some (r, s')) : CT l E yJ2_addAll cJ2_addAll 6 (some .boolean) 4 127 [vr (some this), vr p0] s (some (vi r)) s' := by
  refine CT.start hE (by decide) rfl [(0, vr (some this)), (1, vr p0)] rfl (fun X hX B => ?_)
  skip
  have B : FX X E cJ2_addAll 6 (some .boolean) "java/util/ArrayList" "addAll" (sn s) (ss s) 4 127 := B
  unfold F_J2_addAll at h
  refine r_aload_n (j := 1) B dJ2_addAll_0 rfl rfl ?_
  obtain ⟨a1, ea2, h⟩ := drf_e h
  obtain ⟨hg3, h⟩ := gd_e h
  obtain ⟨r4, s5, hc6, h⟩ := bnd_e h
  refine r_callF (As := []) (rest := []) B rfl ea2 EX.same (c_J2_toArray B.ge h0 hc6) (cw_J2_toArray rfl rfl) (fun _ => isK_e hg3) (by decide) rfl B.2.2.2.2.2.2.2.2.1.1.2.2.2.2.2 q471 q477 q475 (by decide) rfl rfl dJ2_addAll_1 ?_
  refine r_astore_n (L' := [(0, vr (some this)), (1, vr p0), (2, vr r4)]) B dJ2_addAll_6 rfl (by decide) rfl rfl rfl ?_
  refine r_aload_n (j := 0) B dJ2_addAll_7 rfl rfl ?_
  refine r_dup B dJ2_addAll_8 rfl ?_
  obtain ⟨hg7, h⟩ := gd_e h
  refine g18S (k := 0) B (vi (si s5 this 0)) rfl (fun _ => isK_e hg7) rfl q195 q196 (fun _ => rfl) dJ2_addAll_9 ?_
  refine r_iconst (v := 1) B dJ2_addAll_12 (by decide) ?_
  refine r_iadd B dJ2_addAll_13 ?_
  obtain ⟨hg8, h⟩ := gd_e h
  obtain ⟨s9, e10, h⟩ := nam_e h
  refine pI18S (k := 0) B e10 rfl (fun _ => isK_e hg8) rfl q195 q196 rfl (fun _ _ _ => rfl) rfl dJ2_addAll_14 ?_
  refine r_aload_n (j := 2) B dJ2_addAll_17 rfl rfl ?_
  obtain ⟨a11, ea12, h⟩ := drf_e h
  obtain ⟨hg13, h⟩ := gd_e h
  refine r_alen 4 (by decide) B ea12 (fun _ => isK_a hg13) dJ2_addAll_18 ?_
  refine r_istore_n (L' := [(0, vr (some this)), (1, vr p0), (2, vr r4), (3, vi (nI (sk s9 a11).2))]) B dJ2_addAll_19 rfl (by decide) rfl rfl rfl ?_
  refine r_iload_n (j := 3) B dJ2_addAll_20 rfl rfl ?_
  refine r_if_ne (tgt := 26) B dJ2_addAll_21 (by decide) (fun cn14 => ?_) (fun cn14 => ?_)
  · have h := of cn14 h
    refine r_iload_n (j := 3) B dJ2_addAll_26 rfl rfl ?_
    refine r_aload_n (j := 0) B dJ2_addAll_27 rfl rfl ?_
    obtain ⟨hg15, h⟩ := gd_e h
    refine g18 (k := 1) B (vr (sr s9 this 1)) rfl (fun _ => isK_e hg15) rfl q192 rfl (fun _ => rfl) dJ2_addAll_28 ?_
    refine r_dup B dJ2_addAll_31 rfl ?_
    refine r_astore (L' := [(0, vr (some this)), (1, vr p0), (2, vr r4), (3, vi (nI (sk s9 a11).2)), (4, vr (sr s9 this 1))]) B dJ2_addAll_32 (by decide) rfl rfl rfl ?_
    obtain ⟨a16, ea17, h⟩ := drf_e h
    obtain ⟨hg18, h⟩ := gd_e h
    refine r_alen 4 (by decide) B ea17 (fun _ => isK_a hg18) dJ2_addAll_34 ?_
    refine r_aload_n (j := 0) B dJ2_addAll_35 rfl rfl ?_
    obtain ⟨hg19, h⟩ := gd_e h
    refine g18 (k := 2) B (vi (si s9 this 2)) rfl (fun _ => isK_e hg19) rfl q193 rfl (fun _ => rfl) dJ2_addAll_36 ?_
    refine r_dup B dJ2_addAll_39 rfl ?_
    refine r_istore (L' := [(0, vr (some this)), (1, vr p0), (2, vr r4), (3, vi (nI (sk s9 a11).2)), (4, vr (sr s9 this 1)), (5, vi (si s9 this 2))]) B dJ2_addAll_40 (by decide) rfl rfl rfl ?_
    refine r_isub B dJ2_addAll_42 ?_
    refine r_ic_le (tgt := 56) B dJ2_addAll_43 (by decide) (fun cn20 => ?_) (fun cn20 => ?_)
    · have h := ot cn20 h
      refine r_pick [0, 2, 3, 4, 5] (L' := [(0, vr (some this)), (2, vr r4), (3, vi (nI (sk s9 a11).2)), (4, vr (sr s9 this 1)), (5, vi (si s9 this 2))]) rfl ?_
      exact w_J2_addAll_56 B h0 s9 (some this) r4 (nI (sk s9 a11).2) (sr s9 this 1) (si s9 this 2) h
    · have h := of cn20 h
      refine r_aload_n (j := 0) B dJ2_addAll_46 rfl rfl ?_
      refine r_iload (j := 5) B dJ2_addAll_47 rfl ?_
      refine r_iload_n (j := 3) B dJ2_addAll_49 rfl rfl ?_
      refine r_iadd B dJ2_addAll_50 ?_
      obtain ⟨hg21, h⟩ := gd_e h
      obtain ⟨r22, s23, hc24, h⟩ := bnd_e h
      refine r_callVv (As := [vi ((si s9 this 2) + (nI (sk s9 a11).2))]) (rest := []) B rfl rfl EX.same (c_J2_grow B.ge h0 hc24) (cw_J2_grow rfl rfl) (fun z => RV.of 18 ((fun _ => isK_e hg21) z) rfl rfl qs2) q515 q517 rfl dJ2_addAll_51 ?_
      refine r_astore (L' := [(0, vr (some this)), (1, vr p0), (2, vr r4), (3, vi (nI (sk s9 a11).2)), (4, vr r22), (5, vi (si s9 this 2))]) B dJ2_addAll_54 (by decide) rfl rfl rfl ?_
      refine r_pick [0, 2, 3, 4, 5] (L' := [(0, vr (some this)), (2, vr r4), (3, vi (nI (sk s9 a11).2)), (4, vr r22), (5, vi (si s9 this 2))]) rfl ?_
      exact w_J2_addAll_56 B h0 s23 (some this) r4 (nI (sk s9 a11).2) r22 (si s9 this 2) h
  · have h := ot cn14 h
    refine r_iconst (v := 0) B dJ2_addAll_24 (by decide) ?_
    exact r_zret B dJ2_addAll_25 (by decide) h
set_option maxHeartbeats 4000000 in
theorem cw_J2_addAll {X : CX} {fr lo : Nat} (h1 : Nat.ble (4 + 1) fr = true) (h2 : Nat.ble (25 + 127) lo = true) : CW X fr lo yJ2_addAll cJ2_addAll 6 (some .boolean) 4 127 1 := ⟨q469, q130, ⟨by decide +kernel, by decide +kernel, by decide +kernel⟩, Nat.le_of_ble_eq_true h1, Nat.le_of_ble_eq_true h2⟩

set_option maxHeartbeats 4000000 in
noncomputable def F_J6_checkIndex_9 (s : St) (x0 : Int32) (x1 : Int32) (x2 : Option Nat) : Option (Int32 × St) := none
set_option maxHeartbeats 4000000 in
theorem w_J6_checkIndex_9 {X : CX} {E : EV} {a0 s' : St} {r : Int32} (B : FX X E cJ6_checkIndex 3 (some .int) "jdk/internal/util/Preconditions" "checkIndex" (sn a0) (ss a0) 0 0) (h0 : ∀ σ, eSk E σ) (s : St) (x0 : Int32) (x1 : Int32) (x2 : Option Nat) (h : F_J6_checkIndex_9   s x0 x1 x2 = some (r, s')) : J X E (sn a0) (ss a0) 3 (QR X E a0 (some (vi r)) s') s 9 [(0, vi x0), (1, vi x1), (2, vr x2)] [] := by
  unfold F_J6_checkIndex_9 at h
  refine r_aload_n (j := 2) B dJ6_checkIndex_9 rfl rfl ?_
  refine r_iload_n (j := 0) B dJ6_checkIndex_10 rfl rfl ?_
  refine r_iload_n (j := 1) B dJ6_checkIndex_11 rfl rfl ?_
  cases h
set_option maxHeartbeats 4000000 in
noncomputable def F_J6_checkIndex (s : St) (p0 : Int32) (p1 : Int32) (p2 : Option Nat) : Option (Int32 × St) := if p0 < 0 then (F_J6_checkIndex_9 s p0 p1 p2) else (if p0 < p1 then (some (p0, s)) else (F_J6_checkIndex_9 s p0 p1 p2))
set_option maxHeartbeats 4000000 in
theorem c_J6_checkIndex {l : Launch} {E : EV} (hE : GE E) (h0 : ∀ σ, eSk E σ) {s s' : St} {r : Int32} {p0 : Int32} {p1 : Int32} {p2 : Option Nat} (h : F_J6_checkIndex  s p0 p1 p2 = some (r, s')) : CT l E yJ6_checkIndex cJ6_checkIndex 3 (some .int) 0 0 [vi p0, vi p1, vr p2] s (some (vi r)) s' := by
  refine CT.start hE (by decide) rfl [(0, vi p0), (1, vi p1), (2, vr p2)] rfl (fun X hX B => ?_)
  skip
  have B : FX X E cJ6_checkIndex 3 (some .int) "jdk/internal/util/Preconditions" "checkIndex" (sn s) (ss s) 0 0 := B
  unfold F_J6_checkIndex at h
  refine r_iload_n (j := 0) B dJ6_checkIndex_0 rfl rfl ?_
  refine r_if_lt (tgt := 9) B dJ6_checkIndex_1 (by decide) (fun cn1 => ?_) (fun cn1 => ?_)
  · have h := ot cn1 h
    exact w_J6_checkIndex_9 B h0 s p0 p1 p2 h
  · have h := of cn1 h
    refine r_iload_n (j := 0) B dJ6_checkIndex_4 rfl rfl ?_
    refine r_iload_n (j := 1) B dJ6_checkIndex_5 rfl rfl ?_
    refine r_ic_lt (tgt := 16) B dJ6_checkIndex_6 (by decide) (fun cn2 => ?_) (fun cn2 => ?_)
    · have h := ot cn2 h
      refine r_iload_n (j := 0) B dJ6_checkIndex_16 rfl rfl ?_
      exact r_iret B dJ6_checkIndex_17 h
    · have h := of cn2 h
      exact w_J6_checkIndex_9 B h0 s p0 p1 p2 h
set_option maxHeartbeats 4000000 in
theorem cw_J6_checkIndex {X : CX} {fr lo : Nat} (h1 : Nat.ble (0 + 1) fr = true) (h2 : Nat.ble (22 + 0) lo = true) : CW X fr lo yJ6_checkIndex cJ6_checkIndex 3 (some .int) 0 0 3 := ⟨q593, q138, ⟨by decide +kernel, by decide +kernel, by decide +kernel⟩, Nat.le_of_ble_eq_true h1, Nat.le_of_ble_eq_true h2⟩

set_option maxHeartbeats 4000000 in
noncomputable def F_J5_checkIndex (s : St) (p0 : Int32) (p1 : Int32) : Option (Int32 × St) := bnd (F_J6_checkIndex s p0 p1 none) fun r1 s2 => some (r1, s2)
set_option maxHeartbeats 4000000 in
theorem c_J5_checkIndex {l : Launch} {E : EV} (hE : GE E) (h0 : ∀ σ, eSk E σ) {s s' : St} {r : Int32} {p0 : Int32} {p1 : Int32} (h : F_J5_checkIndex  s p0 p1 = some (r, s')) : CT l E yJ5_checkIndex cJ5_checkIndex 2 (some .int) 1 22 [vi p0, vi p1] s (some (vi r)) s' := by
  refine CT.start hE (by decide) rfl [(0, vi p0), (1, vi p1)] rfl (fun X hX B => ?_)
  skip
  have B : FX X E cJ5_checkIndex 2 (some .int) "java/util/Objects" "checkIndex" (sn s) (ss s) 1 22 := B
  unfold F_J5_checkIndex at h
  refine r_iload_n (j := 0) B dJ5_checkIndex_0 rfl rfl ?_
  refine r_iload_n (j := 1) B dJ5_checkIndex_1 rfl rfl ?_
  refine r_null B dJ5_checkIndex_2 ?_
  obtain ⟨r1, s2, hc3, h⟩ := bnd_e h
  refine r_callSv (As := [vi p0, vi p1, vr none]) (rest := []) B rfl EX.same (c_J6_checkIndex B.ge h0 hc3) (cw_J6_checkIndex rfl rfl) q591 q592 rfl dJ5_checkIndex_3 ?_
  exact r_iret B dJ5_checkIndex_6 h
set_option maxHeartbeats 4000000 in
theorem cw_J5_checkIndex {X : CX} {fr lo : Nat} (h1 : Nat.ble (1 + 1) fr = true) (h2 : Nat.ble (21 + 22) lo = true) : CW X fr lo yJ5_checkIndex cJ5_checkIndex 2 (some .int) 1 22 2 := ⟨q590, q137, ⟨by decide +kernel, by decide +kernel, by decide +kernel⟩, Nat.le_of_ble_eq_true h1, Nat.le_of_ble_eq_true h2⟩

set_option maxHeartbeats 4000000 in
noncomputable def F_J2_elementData (s : St) (this : Nat) (p0 : Int32) : Option (Option Nat × St) := gd (isK s this 18) <| drf (sr s this 1) fun a2 => gd (isK s a2 104) <| gd (inb p0 (sk s a2).2) <| some ((sr s a2 p0.toNatClampNeg), s)
set_option maxHeartbeats 4000000 in
theorem c_J2_elementData {l : Launch} {E : EV} (hE : GE E) (h0 : ∀ σ, eSk E σ) {s s' : St} {r : Option Nat} {this : Nat} {p0 : Int32} (h : F_J2_elementData  s this p0 = some (r, s')) : CT l E yJ2_elementData cJ2_elementData 2 (some (.object "java/lang/Object")) 0 0 [vr (some this), vi p0] s (some (vr r)) s' := by
  refine CT.start hE (by decide) rfl [(0, vr (some this)), (1, vi p0)] rfl (fun X hX B => ?_)
  skip
  have B : FX X E cJ2_elementData 2 (some (.object "java/lang/Object")) "java/util/ArrayList" "elementData" (sn s) (ss s) 0 0 := B
  unfold F_J2_elementData at h
  refine r_aload_n (j := 0) B dJ2_elementData_0 rfl rfl ?_
  obtain ⟨hg1, h⟩ := gd_e h
  refine g18 (k := 1) B (vr (sr s this 1)) rfl (fun _ => isK_e hg1) rfl q192 rfl (fun _ => rfl) dJ2_elementData_1 ?_
  refine r_iload_n (j := 1) B dJ2_elementData_4 rfl rfl ?_
  obtain ⟨a2, ea3, h⟩ := drf_e h
  obtain ⟨hg4, h⟩ := gd_e h
  obtain ⟨hg5, h⟩ := gd_e h
  refine r_aald 4 "java/lang/Object" ⟨by decide, by decide, rfl⟩ B ea3 (fun _ => isK_a hg4) hg5 dJ2_elementData_5 ?_
  exact r_aret (Or.inl ⟨_, rfl⟩) B dJ2_elementData_6 h
set_option maxHeartbeats 4000000 in
theorem cw_J2_elementData {X : CX} {fr lo : Nat} (h1 : Nat.ble (0 + 1) fr = true) (h2 : Nat.ble (21 + 0) lo = true) : CW X fr lo yJ2_elementData cJ2_elementData 2 (some (.object "java/lang/Object")) 0 0 1 := ⟨q597, q130, ⟨by decide +kernel, by decide +kernel, by decide +kernel⟩, Nat.le_of_ble_eq_true h1, Nat.le_of_ble_eq_true h2⟩

set_option maxHeartbeats 4000000 in
noncomputable def F_J2_get (s : St) (this : Nat) (p0 : Int32) : Option (Option Nat × St) := gd (isK s this 18) <| bnd (F_J5_checkIndex s p0 (si s this 2)) fun r2 s3 => gd (isK s3 this 18) <| bnd (F_J2_elementData s3 this p0) fun r6 s7 => some (r6, s7)
set_option maxHeartbeats 4000000 in
theorem c_J2_get {l : Launch} {E : EV} (hE : GE E) (h0 : ∀ σ, eSk E σ) {s s' : St} {r : Option Nat} {this : Nat} {p0 : Int32} (h : F_J2_get  s this p0 = some (r, s')) : CT l E yJ2_get cJ2_get 2 (some (.object "java/lang/Object")) 2 43 [vr (some this), vi p0] s (some (vr r)) s' := by
  refine CT.start hE (by decide) rfl [(0, vr (some this)), (1, vi p0)] rfl (fun X hX B => ?_)
  skip
  have B : FX X E cJ2_get 2 (some (.object "java/lang/Object")) "java/util/ArrayList" "get" (sn s) (ss s) 2 43 := B
  unfold F_J2_get at h
  refine r_iload_n (j := 1) B dJ2_get_0 rfl rfl ?_
  refine r_aload_n (j := 0) B dJ2_get_1 rfl rfl ?_
  obtain ⟨hg1, h⟩ := gd_e h
  refine g18 (k := 2) B (vi (si s this 2)) rfl (fun _ => isK_e hg1) rfl q193 rfl (fun _ => rfl) dJ2_get_2 ?_
  obtain ⟨r2, s3, hc4, h⟩ := bnd_e h
  refine r_callSv (As := [vi p0, vi (si s this 2)]) (rest := []) B rfl EX.same (c_J5_checkIndex B.ge h0 hc4) (cw_J5_checkIndex rfl rfl) q588 q589 rfl dJ2_get_5 ?_
  refine r_pop B dJ2_get_8 rfl ?_
  refine r_aload_n (j := 0) B dJ2_get_9 rfl rfl ?_
  refine r_iload_n (j := 1) B dJ2_get_10 rfl rfl ?_
  obtain ⟨hg5, h⟩ := gd_e h
  obtain ⟨r6, s7, hc8, h⟩ := bnd_e h
  refine r_callVv (As := [vi p0]) (rest := []) B rfl rfl EX.same (c_J2_elementData B.ge h0 hc8) (cw_J2_elementData rfl rfl) (fun z => RV.of 18 ((fun _ => isK_e hg5) z) rfl rfl q596) q594 q595 rfl dJ2_get_11 ?_
  exact r_aret (Or.inl ⟨_, rfl⟩) B dJ2_get_14 h
set_option maxHeartbeats 4000000 in
theorem cw_J2_get {X : CX} {fr lo : Nat} (h1 : Nat.ble (2 + 1) fr = true) (h2 : Nat.ble (21 + 43) lo = true) : CW X fr lo yJ2_get cJ2_get 2 (some (.object "java/lang/Object")) 2 43 1 := ⟨q587, q130, ⟨by decide +kernel, by decide +kernel, by decide +kernel⟩, Nat.le_of_ble_eq_true h1, Nat.le_of_ble_eq_true h2⟩

set_option maxHeartbeats 4000000 in
noncomputable def F_J2_size (s : St) (this : Nat)  : Option (Int32 × St) := gd (isK s this 18) <| some ((si s this 2), s)
set_option maxHeartbeats 4000000 in
theorem c_J2_size {l : Launch} {E : EV} (hE : GE E) (h0 : ∀ σ, eSk E σ) {s s' : St} {r : Int32} {this : Nat}  (h : F_J2_size  s this = some (r, s')) : CT l E yJ2_size cJ2_size 1 (some .int) 0 0 [vr (some this)] s (some (vi r)) s' := by
  refine CT.start hE (by decide) rfl [(0, vr (some this))] rfl (fun X hX B => ?_)
  skip
  have B : FX X E cJ2_size 1 (some .int) "java/util/ArrayList" "size" (sn s) (ss s) 0 0 := B
  unfold F_J2_size at h
  refine r_aload_n (j := 0) B dJ2_size_0 rfl rfl ?_
  obtain ⟨hg1, h⟩ := gd_e h
  refine g18 (k := 2) B (vi (si s this 2)) rfl (fun _ => isK_e hg1) rfl q193 rfl (fun _ => rfl) dJ2_size_1 ?_
  exact r_iret B dJ2_size_4 h
set_option maxHeartbeats 4000000 in
theorem cw_J2_size {X : CX} {fr lo : Nat} (h1 : Nat.ble (0 + 1) fr = true) (h2 : Nat.ble (20 + 0) lo = true) : CW X fr lo yJ2_size cJ2_size 1 (some .int) 0 0 0 := ⟨q607, q130, ⟨by decide +kernel, by decide +kernel, by decide +kernel⟩, Nat.le_of_ble_eq_true h1, Nat.le_of_ble_eq_true h2⟩

set_option maxHeartbeats 4000000 in
noncomputable def F_J2_grow_2 (s : St) (this : Nat)  : Option (Option Nat × St) := gd (isK s this 18) <| gd (isK s this 18) <| bnd (F_J2_grow s this ((si s this 2) + (1 : Int32))) fun r3 s4 => some (r3, s4)
set_option maxHeartbeats 4000000 in
theorem c_J2_grow_2 {l : Launch} {E : EV} (hE : GE E) (h0 : ∀ σ, eSk E σ) {s s' : St} {r : Option Nat} {this : Nat}  (h : F_J2_grow_2  s this = some (r, s')) : CT l E yJ2_grow_2 cJ2_grow_2 1 (some (.array (.object "java/lang/Object"))) 4 127 [vr (some this)] s (some (vr r)) s' := by
  refine CT.start hE (by decide) rfl [(0, vr (some this))] rfl (fun X hX B => ?_)
  skip
  have B : FX X E cJ2_grow_2 1 (some (.array (.object "java/lang/Object"))) "java/util/ArrayList" "grow" (sn s) (ss s) 4 127 := B
  unfold F_J2_grow_2 at h
  refine r_aload_n (j := 0) B dJ2_grow_2_0 rfl rfl ?_
  refine r_aload_n (j := 0) B dJ2_grow_2_1 rfl rfl ?_
  obtain ⟨hg1, h⟩ := gd_e h
  refine g18 (k := 2) B (vi (si s this 2)) rfl (fun _ => isK_e hg1) rfl q193 rfl (fun _ => rfl) dJ2_grow_2_2 ?_
  refine r_iconst (v := 1) B dJ2_grow_2_5 (by decide) ?_
  refine r_iadd B dJ2_grow_2_6 ?_
  obtain ⟨hg2, h⟩ := gd_e h
  obtain ⟨r3, s4, hc5, h⟩ := bnd_e h
  refine r_callVv (As := [vi ((si s this 2) + (1 : Int32))]) (rest := []) B rfl rfl EX.same (c_J2_grow B.ge h0 hc5) (cw_J2_grow rfl rfl) (fun z => RV.of 18 ((fun _ => isK_e hg2) z) rfl rfl qs2) q515 q517 rfl dJ2_grow_2_7 ?_
  exact r_aret (Or.inr ⟨_, rfl⟩) B dJ2_grow_2_10 h
set_option maxHeartbeats 4000000 in
theorem cw_J2_grow_2 {X : CX} {fr lo : Nat} (h1 : Nat.ble (4 + 1) fr = true) (h2 : Nat.ble (20 + 127) lo = true) : CW X fr lo yJ2_grow_2 cJ2_grow_2 1 (some (.array (.object "java/lang/Object"))) 4 127 0 := ⟨q1094, q130, ⟨by decide +kernel, by decide +kernel, by decide +kernel⟩, Nat.le_of_ble_eq_true h1, Nat.le_of_ble_eq_true h2⟩

set_option maxHeartbeats 4000000 in
noncomputable def F_J2_add_2_11 (s : St) (x0 : Option Nat) (x1 : Option Nat) (x2 : Option Nat) (x3 : Int32) : Option (Unit × St) := drf x2 fun a1 => gd (isK s a1 104) <| gd (inb x3 (sk s a1).2) <| drf x1 fun a5 => gd (Nat.blt (sk s a5).1 19) <| nam (setR s a1 x3.toNatClampNeg x1) fun s8 => drf x0 fun a10 => gd (isK s8 a10 18) <| nam (setI s8 a10 2 (x3 + (1 : Int32))) fun s13 => some ((), s13)
set_option maxHeartbeats 4000000 in
theorem w_J2_add_2_11 {X : CX} {E : EV} {a0 s' : St} {r : Unit} (B : FX X E cJ2_add_2 4 none "java/util/ArrayList" "add" (sn a0) (ss a0) 5 147) (h0 : ∀ σ, eSk E σ) (s : St) (x0 : Option Nat) (x1 : Option Nat) (x2 : Option Nat) (x3 : Int32) (h : F_J2_add_2_11   s x0 x1 x2 x3 = some (r, s')) : J X E (sn a0) (ss a0) 4 (QR X E a0 none s') s 11 [(0, vr x0), (1, vr x1), (2, vr x2), (3, vi x3)] [] := by
  unfold F_J2_add_2_11 at h
  refine r_aload_n (j := 2) B dJ2_add_2_11 rfl rfl ?_
  refine r_iload_n (j := 3) B dJ2_add_2_12 rfl rfl ?_
  refine r_aload_n (j := 1) B dJ2_add_2_13 rfl rfl ?_
  obtain ⟨a1, ea2, h⟩ := drf_e h
  obtain ⟨hg3, h⟩ := gd_e h
  obtain ⟨hg4, h⟩ := gd_e h
  obtain ⟨a5, ea6, h⟩ := drf_e h
  obtain ⟨hg7, h⟩ := gd_e h
  obtain ⟨s8, e9, h⟩ := nam_e h
  refine r_aastO B e9 ea2 (fun _ => isK_a hg3) hg4 ea6 hg7 (fun _ => h0 _) dJ2_add_2_14 ?_
  refine r_aload_n (j := 0) B dJ2_add_2_15 rfl rfl ?_
  refine r_iload_n (j := 3) B dJ2_add_2_16 rfl rfl ?_
  refine r_iconst (v := 1) B dJ2_add_2_17 (by decide) ?_
  refine r_iadd B dJ2_add_2_18 ?_
  obtain ⟨a10, ea11, h⟩ := drf_e h
  obtain ⟨hg12, h⟩ := gd_e h
  obtain ⟨s13, e14, h⟩ := nam_e h
  refine pI18 (k := 2) B e14 ea11 (fun _ => isK_e hg12) rfl q193 rfl rfl (fun _ _ _ => rfl) rfl dJ2_add_2_19 ?_
  exact r_vret B dJ2_add_2_22 h
set_option maxHeartbeats 4000000 in
noncomputable def F_J2_add_2 (s : St) (this : Nat) (p0 : Option Nat) (p1 : Option Nat) (p2 : Int32) : Option (Unit × St) := drf p1 fun a1 => gd (isK s a1 104) <| if p2 = (nI (sk s a1).2) then (gd (isK s this 18) <| bnd (F_J2_grow_2 s this) fun r6 s7 => F_J2_add_2_11 s7 (some this) p0 r6 p2) else (F_J2_add_2_11 s (some this) p0 p1 p2)
set_option maxHeartbeats 4000000 in
theorem c_J2_add_2 {l : Launch} {E : EV} (hE : GE E) (h0 : ∀ σ, eSk E σ) {s s' : St} {r : Unit} {this : Nat} {p0 : Option Nat} {p1 : Option Nat} {p2 : Int32} (h : F_J2_add_2  s this p0 p1 p2 = some (r, s')) : CT l E yJ2_add_2 cJ2_add_2 4 none 5 147 [vr (some this), vr p0, vr p1, vi p2] s none s' := by
  refine CT.start hE (by decide) rfl [(0, vr (some this)), (1, vr p0), (2, vr p1), (3, vi p2)] rfl (fun X hX B => ?_)
  skip
  have B : FX X E cJ2_add_2 4 none "java/util/ArrayList" "add" (sn s) (ss s) 5 147 := B
  unfold F_J2_add_2 at h
  refine r_iload_n (j := 3) B dJ2_add_2_0 rfl rfl ?_
  refine r_aload_n (j := 2) B dJ2_add_2_1 rfl rfl ?_
  obtain ⟨a1, ea2, h⟩ := drf_e h
  obtain ⟨hg3, h⟩ := gd_e h
  refine r_alen 4 (by decide) B ea2 (fun _ => isK_a hg3) dJ2_add_2_2 ?_
  refine r_ic_ne (tgt := 11) B dJ2_add_2_3 (by decide) (fun cn4 => ?_) (fun cn4 => ?_)
  · have h := of cn4 h
    exact w_J2_add_2_11 B h0 s (some this) p0 p1 p2 h
  · have h := ot cn4 h
    refine r_aload_n (j := 0) B dJ2_add_2_6 rfl rfl ?_
    obtain ⟨hg5, h⟩ := gd_e h
    obtain ⟨r6, s7, hc8, h⟩ := bnd_e h
    refine r_callVv (As := []) (rest := []) B rfl rfl EX.same (c_J2_grow_2 B.ge h0 hc8) (cw_J2_grow_2 rfl rfl) (fun z => RV.of 18 ((fun _ => isK_e hg5) z) rfl rfl qs16) q1091 q1093 rfl dJ2_add_2_7 ?_
    refine r_astore_n (L' := [(0, vr (some this)), (1, vr p0), (2, vr r6), (3, vi p2)]) B dJ2_add_2_10 rfl (by decide) rfl rfl rfl ?_
    exact w_J2_add_2_11 B h0 s7 (some this) p0 r6 p2 h
set_option maxHeartbeats 4000000 in
theorem cw_J2_add_2 {X : CX} {fr lo : Nat} (h1 : Nat.ble (5 + 1) fr = true) (h2 : Nat.ble (23 + 147) lo = true) : CW X fr lo yJ2_add_2 cJ2_add_2 4 none 5 147 3 := ⟨q1090, q130, ⟨by decide +kernel, by decide +kernel, by decide +kernel⟩, Nat.le_of_ble_eq_true h1, Nat.le_of_ble_eq_true h2⟩

set_option maxHeartbeats 4000000 in
noncomputable def F_J2_add (s : St) (this : Nat) (p0 : Option Nat) : Option (Int32 × St) := gd (isK s this 18) <| gd (isK s this 18) <| nam (setI s this 0 ((si s this 0) + (1 : Int32))) fun s3 => gd (isK s3 this 18) <| gd (isK s3 this 18) <| gd (isK s3 this 18) <| bnd (F_J2_add_2 s3 this p0 (sr s3 this 1) (si s3 this 2)) fun _ s9 => some ((1 : Int32), s9)
set_option maxHeartbeats 4000000 in
theorem c_J2_add {l : Launch} {E : EV} (hE : GE E) (h0 : ∀ σ, eSk E σ) {s s' : St} {r : Int32} {this : Nat} {p0 : Option Nat} (h : F_J2_add  s this p0 = some (r, s')) : CT l E yJ2_add cJ2_add 2 (some .boolean) 6 170 [vr (some this), vr p0] s (some (vi r)) s' := by
  refine CT.start hE (by decide) rfl [(0, vr (some this)), (1, vr p0)] rfl (fun X hX B => ?_)
  skip
  have B : FX X E cJ2_add 2 (some .boolean) "java/util/ArrayList" "add" (sn s) (ss s) 6 170 := B
  unfold F_J2_add at h
  refine r_aload_n (j := 0) B dJ2_add_0 rfl rfl ?_
  refine r_dup B dJ2_add_1 rfl ?_
  obtain ⟨hg1, h⟩ := gd_e h
  refine g18S (k := 0) B (vi (si s this 0)) rfl (fun _ => isK_e hg1) rfl q195 q196 (fun _ => rfl) dJ2_add_2 ?_
  refine r_iconst (v := 1) B dJ2_add_5 (by decide) ?_
  refine r_iadd B dJ2_add_6 ?_
  obtain ⟨hg2, h⟩ := gd_e h
  obtain ⟨s3, e4, h⟩ := nam_e h
  refine pI18S (k := 0) B e4 rfl (fun _ => isK_e hg2) rfl q195 q196 rfl (fun _ _ _ => rfl) rfl dJ2_add_7 ?_
  refine r_aload_n (j := 0) B dJ2_add_10 rfl rfl ?_
  refine r_aload_n (j := 1) B dJ2_add_11 rfl rfl ?_
  refine r_aload_n (j := 0) B dJ2_add_12 rfl rfl ?_
  obtain ⟨hg5, h⟩ := gd_e h
  refine g18 (k := 1) B (vr (sr s3 this 1)) rfl (fun _ => isK_e hg5) rfl q192 rfl (fun _ => rfl) dJ2_add_13 ?_
  refine r_aload_n (j := 0) B dJ2_add_16 rfl rfl ?_
  obtain ⟨hg6, h⟩ := gd_e h
  refine g18 (k := 2) B (vi (si s3 this 2)) rfl (fun _ => isK_e hg6) rfl q193 rfl (fun _ => rfl) dJ2_add_17 ?_
  obtain ⟨hg7, h⟩ := gd_e h
  obtain ⟨r8, s9, hc10, h⟩ := bnd_e h
  refine r_callV0 (As := [vr p0, vr (sr s3 this 1), vi (si s3 this 2)]) (rest := []) B rfl rfl EX.same (c_J2_add_2 B.ge h0 hc10) (cw_J2_add_2 rfl rfl) (fun z => RV.of 18 ((fun _ => isK_e hg7) z) rfl rfl qs15) q1087 q1089 rfl dJ2_add_20 ?_
  refine r_iconst (v := 1) B dJ2_add_23 (by decide) ?_
  exact r_zret B dJ2_add_24 (by decide) h
set_option maxHeartbeats 4000000 in
theorem cw_J2_add {X : CX} {fr lo : Nat} (h1 : Nat.ble (6 + 1) fr = true) (h2 : Nat.ble (21 + 170) lo = true) : CW X fr lo yJ2_add cJ2_add 2 (some .boolean) 6 170 1 := ⟨q1086, q130, ⟨by decide +kernel, by decide +kernel, by decide +kernel⟩, Nat.le_of_ble_eq_true h1, Nat.le_of_ble_eq_true h2⟩

set_option maxHeartbeats 4000000 in
noncomputable def F_J3_init_2_41 (s : St) (x0 : Option Nat) (x1 : Option Nat) (x2 : Option Nat) (x3 : Int32) : Option (Unit × St) := drf x0 fun a1 => gd (isTh s a1) <| nam (setR s a1 3 x1) fun s4 => drf x0 fun a6 => gd (isTh s4 a6) <| nam (setR s4 a6 0 x2) fun s9 => if x3 = 0 then (drf x0 fun a12 => gd (isTh s9 a12) <| nam (setR s9 a12 2 none) fun s15 => some ((), s15)) else (some ((), s9))
set_option maxHeartbeats 4000000 in
theorem w_J3_init_2_41 {X : CX} {E : EV} {a0 s' : St} {r : Unit} (B : FX X E cJ3_init_2 5 none "java/lang/Throwable" "<init>" (sn a0) (ss a0) 1 20) (h0 : ∀ σ, eSk E σ) (s : St) (x0 : Option Nat) (x1 : Option Nat) (x2 : Option Nat) (x3 : Int32) (h : F_J3_init_2_41   s x0 x1 x2 x3 = some (r, s')) : J X E (sn a0) (ss a0) 5 (QR X E a0 none s') s 41 [(0, vr x0), (1, vr x1), (2, vr x2), (3, vi x3)] [] := by
  unfold F_J3_init_2_41 at h
  refine r_aload_n (j := 0) B dJ3_init_2_41 rfl rfl ?_
  refine r_aload_n (j := 1) B dJ3_init_2_42 rfl rfl ?_
  obtain ⟨a1, ea2, h⟩ := drf_e h
  obtain ⟨hg3, h⟩ := gd_e h
  obtain ⟨s4, e5, h⟩ := nam_e h
  refine pRTh (k := 3) B e5 ea2 (fun _ => isTh_e hg3) rfl q305 q305 rfl rfl rfl rfl (Or.inl ⟨_, rfl⟩) (Or.inl ⟨_, rfl⟩) (fun _ => h0 _) dJ3_init_2_43 ?_
  refine r_aload_n (j := 0) B dJ3_init_2_46 rfl rfl ?_
  refine r_aload_n (j := 2) B dJ3_init_2_47 rfl rfl ?_
  obtain ⟨a6, ea7, h⟩ := drf_e h
  obtain ⟨hg8, h⟩ := gd_e h
  obtain ⟨s9, e10, h⟩ := nam_e h
  refine pRTh (k := 0) B e10 ea7 (fun _ => isTh_e hg8) rfl q306 q306 rfl rfl rfl rfl (Or.inl ⟨_, rfl⟩) (Or.inl ⟨_, rfl⟩) (fun _ => h0 _) dJ3_init_2_48 ?_
  refine r_iload_n (j := 3) B dJ3_init_2_51 rfl rfl ?_
  refine r_if_ne (tgt := 60) B dJ3_init_2_52 (by decide) (fun cn11 => ?_) (fun cn11 => ?_)
  · have h := of cn11 h
    exact r_vret B dJ3_init_2_60 h
  · have h := ot cn11 h
    refine r_aload_n (j := 0) B dJ3_init_2_55 rfl rfl ?_
    refine r_null B dJ3_init_2_56 ?_
    obtain ⟨a12, ea13, h⟩ := drf_e h
    obtain ⟨hg14, h⟩ := gd_e h
    obtain ⟨s15, e16, h⟩ := nam_e h
    refine pRTh (k := 2) B e16 ea13 (fun _ => isTh_e hg14) rfl q308 q308 rfl rfl rfl rfl (Or.inl ⟨_, rfl⟩) (Or.inl ⟨_, rfl⟩) (fun _ => h0 _) dJ3_init_2_57 ?_
    exact r_vret B dJ3_init_2_60 h
set_option maxHeartbeats 4000000 in
noncomputable def F_J3_init_2 (s : St) (this : Nat) (p0 : Option Nat) (p1 : Option Nat) (p2 : Int32) (p3 : Int32) : Option (Unit × St) := gd (isTh s this) <| nam (setR s this 0 (some this)) fun s2 => gd (isTh s2 this) <| nam (setR s2 this 1 (some 1000000900)) fun s5 => gd (isTh s5 this) <| nam (setR s5 this 2 (some 1000000901)) fun s8 => if p3 = 0 then (gd (isTh s8 this) <| nam (setR s8 this 1 none) fun s12 => F_J3_init_2_41 s12 (some this) p0 p1 p2) else (none)
set_option maxHeartbeats 4000000 in
theorem c_J3_init_2 {l : Launch} {E : EV} (hE : GE E) (h0 : ∀ σ, eSk E σ) {s s' : St} {r : Unit} {this : Nat} {p0 : Option Nat} {p1 : Option Nat} {p2 : Int32} {p3 : Int32} (h : F_J3_init_2  s this p0 p1 p2 p3 = some (r, s')) : CT l E yJ3_init_2 cJ3_init_2 5 none 1 20 [vr (some this), vr p0, vr p1, vi p2, vi p3] s none s' := by
  refine CT.start hE (by decide) rfl [(0, vr (some this)), (1, vr p0), (2, vr p1), (3, vi p2), (4, vi p3)] rfl (fun X hX B => ?_)
  skip
  have B : FX X E cJ3_init_2 5 none "java/lang/Throwable" "<init>" (sn s) (ss s) 1 20 := B
  unfold F_J3_init_2 at h
  refine r_aload_n (j := 0) B dJ3_init_2_0 rfl rfl ?_
  refine r_objInit B rfl q280 q168 q169 (by decide) (by decide) rfl dJ3_init_2_1 ?_
  refine r_aload_n (j := 0) B dJ3_init_2_4 rfl rfl ?_
  refine r_aload_n (j := 0) B dJ3_init_2_5 rfl rfl ?_
  obtain ⟨hg1, h⟩ := gd_e h
  obtain ⟨s2, e3, h⟩ := nam_e h
  refine pRTh (k := 0) B e3 rfl (fun _ => isTh_e hg1) rfl q306 q306 rfl rfl rfl rfl (Or.inl ⟨_, rfl⟩) (Or.inl ⟨_, rfl⟩) (fun _ => h0 _) dJ3_init_2_6 ?_
  refine r_aload_n (j := 0) B dJ3_init_2_9 rfl rfl ?_
  refine r_gets 0 B rfl q281 dJ3_init_2_10 ?_
  obtain ⟨hg4, h⟩ := gd_e h
  obtain ⟨s5, e6, h⟩ := nam_e h
  refine pRTh (k := 1) B e6 rfl (fun _ => isTh_e hg4) rfl q307 q307 rfl rfl rfl rfl (Or.inr ⟨_, rfl⟩) (Or.inr ⟨_, rfl⟩) (fun _ => h0 _) dJ3_init_2_13 ?_
  refine r_aload_n (j := 0) B dJ3_init_2_16 rfl rfl ?_
  refine r_gets 1 B rfl q283 dJ3_init_2_17 ?_
  obtain ⟨hg7, h⟩ := gd_e h
  obtain ⟨s8, e9, h⟩ := nam_e h
  refine pRTh (k := 2) B e9 rfl (fun _ => isTh_e hg7) rfl q308 q308 rfl rfl rfl rfl (Or.inl ⟨_, rfl⟩) (Or.inl ⟨_, rfl⟩) (fun _ => h0 _) dJ3_init_2_20 ?_
  refine r_iload (j := 4) B dJ3_init_2_23 rfl ?_
  refine r_if_eq (tgt := 36) B dJ3_init_2_25 (by decide) (fun cn10 => ?_) (fun cn10 => ?_)
  · have h := ot cn10 h
    refine r_aload_n (j := 0) B dJ3_init_2_36 rfl rfl ?_
    refine r_null B dJ3_init_2_37 ?_
    obtain ⟨hg11, h⟩ := gd_e h
    obtain ⟨s12, e13, h⟩ := nam_e h
    refine pRTh (k := 1) B e13 rfl (fun _ => isTh_e hg11) rfl q307 q307 rfl rfl rfl rfl (Or.inr ⟨_, rfl⟩) (Or.inr ⟨_, rfl⟩) (fun _ => h0 _) dJ3_init_2_38 ?_
    refine r_pick [0, 1, 2, 3] (L' := [(0, vr (some this)), (1, vr p0), (2, vr p1), (3, vi p2)]) rfl ?_
    exact w_J3_init_2_41 B h0 s12 (some this) p0 p1 p2 h
  · have h := of cn10 h
    refine r_aload_n (j := 0) B dJ3_init_2_28 rfl rfl ?_
    cases h
set_option maxHeartbeats 4000000 in
theorem cw_J3_init_2 {X : CX} {fr lo : Nat} (h1 : Nat.ble (1 + 1) fr = true) (h2 : Nat.ble (24 + 20) lo = true) : CW X fr lo yJ3_init_2 cJ3_init_2 5 none 1 20 4 := ⟨q303, q132, ⟨by decide +kernel, by decide +kernel, by decide +kernel⟩, Nat.le_of_ble_eq_true h1, Nat.le_of_ble_eq_true h2⟩

set_option maxHeartbeats 4000000 in
noncomputable def F_J4_init (s : St) (this : Nat) (p0 : Option Nat) (p1 : Option Nat) (p2 : Int32) (p3 : Int32) : Option (Unit × St) := bnd (F_J3_init_2 s this p0 p1 p2 p3) fun _ s2 => some ((), s2)
set_option maxHeartbeats 4000000 in
theorem c_J4_init {l : Launch} {E : EV} (hE : GE E) (h0 : ∀ σ, eSk E σ) {s s' : St} {r : Unit} {this : Nat} {p0 : Option Nat} {p1 : Option Nat} {p2 : Int32} {p3 : Int32} (h : F_J4_init  s this p0 p1 p2 p3 = some (r, s')) : CT l E yJ4_init cJ4_init 5 none 2 44 [vr (some this), vr p0, vr p1, vi p2, vi p3] s none s' := by
  refine CT.start hE (by decide) rfl [(0, vr (some this)), (1, vr p0), (2, vr p1), (3, vi p2), (4, vi p3)] rfl (fun X hX B => ?_)
  skip
  have B : FX X E cJ4_init 5 none "java/lang/Exception" "<init>" (sn s) (ss s) 2 44 := B
  unfold F_J4_init at h
  refine r_aload_n (j := 0) B dJ4_init_0 rfl rfl ?_
  refine r_aload_n (j := 1) B dJ4_init_1 rfl rfl ?_
  refine r_aload_n (j := 2) B dJ4_init_2 rfl rfl ?_
  refine r_iload_n (j := 3) B dJ4_init_3 rfl rfl ?_
  refine r_iload (j := 4) B dJ4_init_4 rfl ?_
  obtain ⟨r1, s2, hc3, h⟩ := bnd_e h
  refine r_callI (As := [vr p0, vr p1, vi p2, vi p3]) (rest := []) B rfl rfl EX.same (c_J3_init_2 B.ge h0 hc3) (cw_J3_init_2 rfl rfl) rfl q301 q302 rfl dJ4_init_6 ?_
  exact r_vret B dJ4_init_9 h
set_option maxHeartbeats 4000000 in
theorem cw_J4_init {X : CX} {fr lo : Nat} (h1 : Nat.ble (2 + 1) fr = true) (h2 : Nat.ble (24 + 44) lo = true) : CW X fr lo yJ4_init cJ4_init 5 none 2 44 4 := ⟨q300, q133, ⟨by decide +kernel, by decide +kernel, by decide +kernel⟩, Nat.le_of_ble_eq_true h1, Nat.le_of_ble_eq_true h2⟩

set_option maxHeartbeats 4000000 in
noncomputable def F_J7_coder (s : St) (this : Nat)  : Option (Int32 × St) := if (1 : Int32) = 0 then (some ((1 : Int32), s)) else (gd (isS this) <| some ((0 : Int32), s))
set_option maxHeartbeats 4000000 in
theorem c_J7_coder {l : Launch} {E : EV} (hE : GE E) (h0 : ∀ σ, eSk E σ) {s s' : St} {r : Int32} {this : Nat}  (h : F_J7_coder  s this = some (r, s')) : CT l E yJ7_coder cJ7_coder 1 (some .byte) 0 0 [vr (some this)] s (some (vi r)) s' := by
  refine CT.start hE (by decide) rfl [(0, vr (some this))] rfl (fun X hX B => ?_)
  skip
  have B : FX X E cJ7_coder 1 (some .byte) "java/lang/String" "coder" (sn s) (ss s) 0 0 := B
  unfold F_J7_coder at h
  refine r_gets 5 B rfl q775 dJ7_coder_0 ?_
  refine r_if_eq (tgt := 13) B dJ7_coder_3 (by decide) (fun cn1 => ?_) (fun cn1 => ?_)
  · have h := ot cn1 h
    refine r_iconst (v := 1) B dJ7_coder_13 (by decide) ?_
    exact r_zret B dJ7_coder_14 (by decide) h
  · have h := of cn1 h
    refine r_aload_n (j := 0) B dJ7_coder_6 rfl rfl ?_
    obtain ⟨hg2, h⟩ := gd_e h
    refine r_scod B rfl hg2 q2297 dJ7_coder_7 ?_
    refine r_goto (tgt := 14) B dJ7_coder_10 (by decide) ?_
    exact r_zret B dJ7_coder_14 (by decide) h
set_option maxHeartbeats 4000000 in
theorem cw_J7_coder {X : CX} {fr lo : Nat} (h1 : Nat.ble (0 + 1) fr = true) (h2 : Nat.ble (20 + 0) lo = true) : CW X fr lo yJ7_coder cJ7_coder 1 (some .byte) 0 0 0 := ⟨q774, q141, ⟨by decide +kernel, by decide +kernel, by decide +kernel⟩, Nat.le_of_ble_eq_true h1, Nat.le_of_ble_eq_true h2⟩

set_option maxHeartbeats 4000000 in
noncomputable def F_J7_length (s : St) (this : Nat)  : Option (Int32 × St) := gd (isS this) <| gd (isSA (this + 100)) <| gd (isS this) <| bnd (F_J7_coder s this) fun r4 s5 => some (((nI (slen.getD ((this + 100) - 1000000100) 0)) >>> (r4 &&& 31)), s5)
set_option maxHeartbeats 4000000 in
theorem c_J7_length {l : Launch} {E : EV} (hE : GE E) (h0 : ∀ σ, eSk E σ) {s s' : St} {r : Int32} {this : Nat}  (h : F_J7_length  s this = some (r, s')) : CT l E yJ7_length cJ7_length 1 (some .int) 1 20 [vr (some this)] s (some (vi r)) s' := by
  refine CT.start hE (by decide) rfl [(0, vr (some this))] rfl (fun X hX B => ?_)
  skip
  have B : FX X E cJ7_length 1 (some .int) "java/lang/String" "length" (sn s) (ss s) 1 20 := B
  unfold F_J7_length at h
  refine r_aload_n (j := 0) B dJ7_length_0 rfl rfl ?_
  obtain ⟨hg1, h⟩ := gd_e h
  refine r_sval B rfl hg1 q2296 dJ7_length_1 ?_
  obtain ⟨hg2, h⟩ := gd_e h
  refine r_salen B rfl hg2 dJ7_length_4 ?_
  refine r_aload_n (j := 0) B dJ7_length_5 rfl rfl ?_
  obtain ⟨hg3, h⟩ := gd_e h
  obtain ⟨r4, s5, hc6, h⟩ := bnd_e h
  refine r_callK (As := []) (rest := [vi (nI (slen.getD ((this + 100) - 1000000100) 0))]) B rfl rfl EX.same (c_J7_coder B.ge h0 hc6) (cw_J7_coder rfl rfl) hg3 q773 q771 q772 rfl dJ7_length_6 ?_
  refine r_ishr B dJ7_length_9 ?_
  exact r_iret B dJ7_length_10 h
set_option maxHeartbeats 4000000 in
theorem cw_J7_length {X : CX} {fr lo : Nat} (h1 : Nat.ble (1 + 1) fr = true) (h2 : Nat.ble (20 + 20) lo = true) : CW X fr lo yJ7_length cJ7_length 1 (some .int) 1 20 0 := ⟨q770, q141, ⟨by decide +kernel, by decide +kernel, by decide +kernel⟩, Nat.le_of_ble_eq_true h1, Nat.le_of_ble_eq_true h2⟩

set_option maxHeartbeats 4000000 in
noncomputable def F_J7_isLatin1 (s : St) (this : Nat)  : Option (Int32 × St) := if (1 : Int32) = 0 then (some ((0 : Int32), s)) else (gd (isS this) <| if (0 : Int32) = 0 then (some ((1 : Int32), s)) else (some ((0 : Int32), s)))
set_option maxHeartbeats 4000000 in
theorem c_J7_isLatin1 {l : Launch} {E : EV} (hE : GE E) (h0 : ∀ σ, eSk E σ) {s s' : St} {r : Int32} {this : Nat}  (h : F_J7_isLatin1  s this = some (r, s')) : CT l E yJ7_isLatin1 cJ7_isLatin1 1 (some .boolean) 0 0 [vr (some this)] s (some (vi r)) s' := by
  refine CT.start hE (by decide) rfl [(0, vr (some this))] rfl (fun X hX B => ?_)
  skip
  have B : FX X E cJ7_isLatin1 1 (some .boolean) "java/lang/String" "isLatin1" (sn s) (ss s) 0 0 := B
  unfold F_J7_isLatin1 at h
  refine r_gets 5 B rfl q775 dJ7_isLatin1_0 ?_
  refine r_if_eq (tgt := 17) B dJ7_isLatin1_3 (by decide) (fun cn1 => ?_) (fun cn1 => ?_)
  · have h := ot cn1 h
    refine r_iconst (v := 0) B dJ7_isLatin1_17 (by decide) ?_
    exact r_zret B dJ7_isLatin1_18 (by decide) h
  · have h := of cn1 h
    refine r_aload_n (j := 0) B dJ7_isLatin1_6 rfl rfl ?_
    obtain ⟨hg2, h⟩ := gd_e h
    refine r_scod B rfl hg2 q2297 dJ7_isLatin1_7 ?_
    refine r_if_ne (tgt := 17) B dJ7_isLatin1_10 (by decide) (fun cn3 => ?_) (fun cn3 => ?_)
    · have h := of cn3 h
      refine r_iconst (v := 0) B dJ7_isLatin1_17 (by decide) ?_
      exact r_zret B dJ7_isLatin1_18 (by decide) h
    · have h := ot cn3 h
      refine r_iconst (v := 1) B dJ7_isLatin1_13 (by decide) ?_
      refine r_goto (tgt := 18) B dJ7_isLatin1_14 (by decide) ?_
      exact r_zret B dJ7_isLatin1_18 (by decide) h
set_option maxHeartbeats 4000000 in
theorem cw_J7_isLatin1 {X : CX} {fr lo : Nat} (h1 : Nat.ble (0 + 1) fr = true) (h2 : Nat.ble (20 + 0) lo = true) : CW X fr lo yJ7_isLatin1 cJ7_isLatin1 1 (some .boolean) 0 0 0 := ⟨q784, q141, ⟨by decide +kernel, by decide +kernel, by decide +kernel⟩, Nat.le_of_ble_eq_true h1, Nat.le_of_ble_eq_true h2⟩

set_option maxHeartbeats 4000000 in
noncomputable def F_J7_checkIndex (s : St) (p0 : Int32) (p1 : Int32) : Option (Unit × St) := bnd (F_J6_checkIndex s p0 p1 (some 1000000904)) fun r1 s2 => some ((), s2)
set_option maxHeartbeats 4000000 in
theorem c_J7_checkIndex {l : Launch} {E : EV} (hE : GE E) (h0 : ∀ σ, eSk E σ) {s s' : St} {r : Unit} {p0 : Int32} {p1 : Int32} (h : F_J7_checkIndex  s p0 p1 = some (r, s')) : CT l E yJ7_checkIndex cJ7_checkIndex 2 none 1 22 [vi p0, vi p1] s none s' := by
  refine CT.start hE (by decide) rfl [(0, vi p0), (1, vi p1)] rfl (fun X hX B => ?_)
  skip
  have B : FX X E cJ7_checkIndex 2 none "java/lang/String" "checkIndex" (sn s) (ss s) 1 22 := B
  unfold F_J7_checkIndex at h
  refine r_iload_n (j := 0) B dJ7_checkIndex_0 rfl rfl ?_
  refine r_iload_n (j := 1) B dJ7_checkIndex_1 rfl rfl ?_
  refine r_gets 4 B rfl q791 dJ7_checkIndex_2 ?_
  obtain ⟨r1, s2, hc3, h⟩ := bnd_e h
  refine r_callSv (As := [vi p0, vi p1, vr (some 1000000904)]) (rest := []) B rfl EX.same (c_J6_checkIndex B.ge h0 hc3) (cw_J6_checkIndex rfl rfl) q793 q592 rfl dJ7_checkIndex_5 ?_
  refine r_pop B dJ7_checkIndex_8 rfl ?_
  exact r_vret B dJ7_checkIndex_9 h
set_option maxHeartbeats 4000000 in
theorem cw_J7_checkIndex {X : CX} {fr lo : Nat} (h1 : Nat.ble (1 + 1) fr = true) (h2 : Nat.ble (21 + 22) lo = true) : CW X fr lo yJ7_checkIndex cJ7_checkIndex 2 none 1 22 2 := ⟨q790, q141, ⟨by decide +kernel, by decide +kernel, by decide +kernel⟩, Nat.le_of_ble_eq_true h1, Nat.le_of_ble_eq_true h2⟩

set_option maxHeartbeats 4000000 in
noncomputable def F_J8_charAt (s : St) (p0 : Option Nat) (p1 : Int32) : Option (Int32 × St) := drf p0 fun a1 => gd (isSA a1) <| bnd (F_J7_checkIndex s p1 (nI (slen.getD (a1 - 1000000100) 0))) fun _ s5 => drf p0 fun a7 => gd (isSA a7) <| gd (inb p1 (slen.getD (a7 - 1000000100) 0)) <| gd (fits .char (.int ((((((sbyt.getD (a7 - 1000000100) []).getD p1.toNatClampNeg 0) &&& (255 : Int32))).toUInt32 % 65536).toInt32))) <| some (((((((sbyt.getD (a7 - 1000000100) []).getD p1.toNatClampNeg 0) &&& (255 : Int32))).toUInt32 % 65536).toInt32), s5)
set_option maxHeartbeats 4000000 in
theorem c_J8_charAt {l : Launch} {E : EV} (hE : GE E) (h0 : ∀ σ, eSk E σ) {s s' : St} {r : Int32} {p0 : Option Nat} {p1 : Int32} (h : F_J8_charAt  s p0 p1 = some (r, s')) : CT l E yJ8_charAt cJ8_charAt 2 (some .char) 2 43 [vr p0, vi p1] s (some (vi r)) s' := by
  refine CT.start hE (by decide) rfl [(0, vr p0), (1, vi p1)] rfl (fun X hX B => ?_)
  skip
  have B : FX X E cJ8_charAt 2 (some .char) "java/lang/StringLatin1" "charAt" (sn s) (ss s) 2 43 := B
  unfold F_J8_charAt at h
  refine r_iload_n (j := 1) B dJ8_charAt_0 rfl rfl ?_
  refine r_aload_n (j := 0) B dJ8_charAt_1 rfl rfl ?_
  obtain ⟨a1, ea2, h⟩ := drf_e h
  obtain ⟨hg3, h⟩ := gd_e h
  refine r_salen B ea2 hg3 dJ8_charAt_2 ?_
  obtain ⟨r4, s5, hc6, h⟩ := bnd_e h
  refine r_callS0 (As := [vi p1, vi (nI (slen.getD (a1 - 1000000100) 0))]) (rest := []) B rfl EX.same (c_J7_checkIndex B.ge h0 hc6) (cw_J7_checkIndex rfl rfl) q788 q789 rfl dJ8_charAt_3 ?_
  refine r_aload_n (j := 0) B dJ8_charAt_6 rfl rfl ?_
  refine r_iload_n (j := 1) B dJ8_charAt_7 rfl rfl ?_
  obtain ⟨a7, ea8, h⟩ := drf_e h
  obtain ⟨hg9, h⟩ := gd_e h
  obtain ⟨hg10, h⟩ := gd_e h
  refine r_sbald B ea8 hg9 hg10 dJ8_charAt_8 ?_
  refine r_sipush (v := 255) B dJ8_charAt_9 (by decide) ?_
  refine r_iand B dJ8_charAt_12 ?_
  refine r_i2c B dJ8_charAt_13 ?_
  obtain ⟨hg11, h⟩ := gd_e h
  exact r_zret B dJ8_charAt_14 hg11 h
set_option maxHeartbeats 4000000 in
theorem cw_J8_charAt {X : CX} {fr lo : Nat} (h1 : Nat.ble (2 + 1) fr = true) (h2 : Nat.ble (21 + 43) lo = true) : CW X fr lo yJ8_charAt cJ8_charAt 2 (some .char) 2 43 2 := ⟨q787, q142, ⟨by decide +kernel, by decide +kernel, by decide +kernel⟩, Nat.le_of_ble_eq_true h1, Nat.le_of_ble_eq_true h2⟩

set_option maxHeartbeats 4000000 in
noncomputable def F_J7_charAt (s : St) (this : Nat) (p0 : Int32) : Option (Int32 × St) := gd (isS this) <| bnd (F_J7_isLatin1 s this) fun r2 s3 => if r2 = 0 then (gd (isS this) <| none) else (gd (isS this) <| bnd (F_J8_charAt s3 (some (this + 100)) p0) fun r8 s9 => gd (fits .char (.int r8)) <| some (r8, s9))
set_option maxHeartbeats 4000000 in
theorem c_J7_charAt {l : Launch} {E : EV} (hE : GE E) (h0 : ∀ σ, eSk E σ) {s s' : St} {r : Int32} {this : Nat} {p0 : Int32} (h : F_J7_charAt  s this p0 = some (r, s')) : CT l E yJ7_charAt cJ7_charAt 2 (some .char) 4 85 [vr (some this), vi p0] s (some (vi r)) s' := by
  refine CT.start hE (by decide) rfl [(0, vr (some this)), (1, vi p0)] rfl (fun X hX B => ?_)
  skip
  have B : FX X E cJ7_charAt 2 (some .char) "java/lang/String" "charAt" (sn s) (ss s) 4 85 := B
  unfold F_J7_charAt at h
  refine r_aload_n (j := 0) B dJ7_charAt_0 rfl rfl ?_
  obtain ⟨hg1, h⟩ := gd_e h
  obtain ⟨r2, s3, hc4, h⟩ := bnd_e h
  refine r_callK (As := []) (rest := []) B rfl rfl EX.same (c_J7_isLatin1 B.ge h0 hc4) (cw_J7_isLatin1 rfl rfl) hg1 q783 q781 q782 rfl dJ7_charAt_1 ?_
  refine r_if_eq (tgt := 16) B dJ7_charAt_4 (by decide) (fun cn5 => ?_) (fun cn5 => ?_)
  · have h := ot cn5 h
    refine r_aload_n (j := 0) B dJ7_charAt_16 rfl rfl ?_
    obtain ⟨hg6, h⟩ := gd_e h
    refine r_sval B rfl hg6 q2296 dJ7_charAt_17 ?_
    refine r_iload_n (j := 1) B dJ7_charAt_20 rfl rfl ?_
    cases h
  · have h := of cn5 h
    refine r_aload_n (j := 0) B dJ7_charAt_7 rfl rfl ?_
    obtain ⟨hg7, h⟩ := gd_e h
    refine r_sval B rfl hg7 q2296 dJ7_charAt_8 ?_
    refine r_iload_n (j := 1) B dJ7_charAt_11 rfl rfl ?_
    obtain ⟨r8, s9, hc10, h⟩ := bnd_e h
    refine r_callSv (As := [vr (some (this + 100)), vi p0]) (rest := []) B rfl EX.same (c_J8_charAt B.ge h0 hc10) (cw_J8_charAt rfl rfl) q785 q786 rfl dJ7_charAt_12 ?_
    obtain ⟨hg11, h⟩ := gd_e h
    exact r_zret B dJ7_charAt_15 hg11 h
set_option maxHeartbeats 4000000 in
theorem cw_J7_charAt {X : CX} {fr lo : Nat} (h1 : Nat.ble (4 + 1) fr = true) (h2 : Nat.ble (21 + 85) lo = true) : CW X fr lo yJ7_charAt cJ7_charAt 2 (some .char) 4 85 1 := ⟨q780, q141, ⟨by decide +kernel, by decide +kernel, by decide +kernel⟩, Nat.le_of_ble_eq_true h1, Nat.le_of_ble_eq_true h2⟩

set_option maxHeartbeats 4000000 in
noncomputable def F_X1_init (s : St) (this : Nat)  : Option (Unit × St) := gd (okN s 6) <| nam (newO s (100, 6) 6) fun s2 => gd (isK s2 this 1) <| nam (setR s2 this 0 (some (sn s))) fun s5 => gd (okN s5 6) <| nam (newO s5 (100, 6) 6) fun s8 => gd (isK s8 this 1) <| nam (setR s8 this 1 (some (sn s5))) fun s11 => gd (okN s11 6) <| nam (newO s11 (100, 6) 6) fun s14 => gd (isK s14 this 1) <| nam (setR s14 this 2 (some (sn s11))) fun s17 => gd (okN s17 6) <| nam (newO s17 (100, 6) 6) fun s20 => gd (isK s20 this 1) <| nam (setR s20 this 3 (some (sn s17))) fun s23 => gd (okN s23 6) <| nam (newO s23 (100, 6) 6) fun s26 => gd (isK s26 this 1) <| nam (setR s26 this 4 (some (sn s23))) fun s29 => gd (okN s29 9) <| nam (newO s29 (100, 9) 9) fun s32 => gd (isK s32 (sn s29) 100) <| gd (inb (0 : Int32) (sk s32 (sn s29)).2) <| nam (setI s32 (sn s29) (0 : Int32).toNatClampNeg (3 : Int32)) fun s36 => gd (isK s36 (sn s29) 100) <| gd (inb (1 : Int32) (sk s36 (sn s29)).2) <| nam (setI s36 (sn s29) (1 : Int32).toNatClampNeg (0 : Int32)) fun s40 => gd (isK s40 (sn s29) 100) <| gd (inb (2 : Int32) (sk s40 (sn s29)).2) <| nam (setI s40 (sn s29) (2 : Int32).toNatClampNeg (3 : Int32)) fun s44 => gd (isK s44 (sn s29) 100) <| gd (inb (3 : Int32) (sk s44 (sn s29)).2) <| nam (setI s44 (sn s29) (3 : Int32).toNatClampNeg (3 : Int32)) fun s48 => gd (isK s48 (sn s29) 100) <| gd (inb (4 : Int32) (sk s48 (sn s29)).2) <| nam (setI s48 (sn s29) (4 : Int32).toNatClampNeg (2 : Int32)) fun s52 => gd (isK s52 (sn s29) 100) <| gd (inb (5 : Int32) (sk s52 (sn s29)).2) <| nam (setI s52 (sn s29) (5 : Int32).toNatClampNeg (0 : Int32)) fun s56 => gd (isK s56 (sn s29) 100) <| gd (inb (6 : Int32) (sk s56 (sn s29)).2) <| nam (setI s56 (sn s29) (6 : Int32).toNatClampNeg (-1 : Int32)) fun s60 => gd (isK s60 (sn s29) 100) <| gd (inb (7 : Int32) (sk s60 (sn s29)).2) <| nam (setI s60 (sn s29) (7 : Int32).toNatClampNeg (9 : Int32)) fun s64 => gd (isK s64 (sn s29) 100) <| gd (inb (8 : Int32) (sk s64 (sn s29)).2) <| nam (setI s64 (sn s29) (8 : Int32).toNatClampNeg (0 : Int32)) fun s68 => gd (isK s68 this 1) <| nam (setR s68 this 5 (some (sn s29))) fun s71 => gd (okN s71 8) <| nam (newO s71 (100, 8) 8) fun s74 => gd (isK s74 this 1) <| nam (setR s74 this 6 (some (sn s71))) fun s77 => gd (okN s77 3) <| nam (newO s77 (18, 0) 3) fun s80 => bnd (F_J2_init s80 (sn s77) (2 : Int32)) fun _ s83 => gd (isK s83 this 1) <| nam (setR s83 this 7 (some (sn s77))) fun s86 => gd (isK s86 this 1) <| nam (setI s86 this 10 (-1 : Int32)) fun s89 => some ((), s89)
set_option maxHeartbeats 4000000 in
theorem c_X1_init {l : Launch} {E : EV} (hE : GE E) (h0 : ∀ σ, eSk E σ) {s s' : St} {r : Unit} {this : Nat}  (h : F_X1_init  s this = some (r, s')) : CT l E yX1_init cX1_init 1 none 4 81 [vr (some this)] s none s' := by
  refine CT.start hE (by decide) rfl [(0, vr (some this))] rfl (fun X hX B => ?_)
  skip
  have B : FX X E cX1_init 1 none "RoseThrow$State" "<init>" (sn s) (ss s) 4 81 := B
  unfold F_X1_init at h
  refine r_aload_n (j := 0) B dX1_init_0 rfl rfl ?_
  refine r_objInit B rfl q175 q168 q169 (by decide) (by decide) rfl dX1_init_1 ?_
  refine r_aload_n (j := 0) B dX1_init_4 rfl rfl ?_
  refine r_bipush (v := 6) B dX1_init_5 (by decide) ?_
  obtain ⟨hg1, h⟩ := gd_e h
  obtain ⟨s2, e3, h⟩ := nam_e h
  refine r_newa 0 (by decide) B rfl (by decide) (N := 6) (by decide) rfl e3 hg1 q204 (fun _ => h0 _) dX1_init_7 ?_
  obtain ⟨hg4, h⟩ := gd_e h
  obtain ⟨s5, e6, h⟩ := nam_e h
  refine pR1F (k := 0) B e6 rfl (fun _ => isK_e hg4) rfl q205 rfl rfl rfl rfl (Or.inr ⟨_, rfl⟩) (fun _ => h0 _) dX1_init_9 ?_
  refine r_aload_n (j := 0) B dX1_init_12 rfl rfl ?_
  refine r_bipush (v := 6) B dX1_init_13 (by decide) ?_
  obtain ⟨hg7, h⟩ := gd_e h
  obtain ⟨s8, e9, h⟩ := nam_e h
  refine r_newa 0 (by decide) B rfl (by decide) (N := 6) (by decide) rfl e9 hg7 q204 (fun _ => h0 _) dX1_init_15 ?_
  obtain ⟨hg10, h⟩ := gd_e h
  obtain ⟨s11, e12, h⟩ := nam_e h
  refine pR1F (k := 1) B e12 rfl (fun _ => isK_e hg10) rfl q207 rfl rfl rfl rfl (Or.inr ⟨_, rfl⟩) (fun _ => h0 _) dX1_init_17 ?_
  refine r_aload_n (j := 0) B dX1_init_20 rfl rfl ?_
  refine r_bipush (v := 6) B dX1_init_21 (by decide) ?_
  obtain ⟨hg13, h⟩ := gd_e h
  obtain ⟨s14, e15, h⟩ := nam_e h
  refine r_newa 0 (by decide) B rfl (by decide) (N := 6) (by decide) rfl e15 hg13 q204 (fun _ => h0 _) dX1_init_23 ?_
  obtain ⟨hg16, h⟩ := gd_e h
  obtain ⟨s17, e18, h⟩ := nam_e h
  refine pR1F (k := 2) B e18 rfl (fun _ => isK_e hg16) rfl q209 rfl rfl rfl rfl (Or.inr ⟨_, rfl⟩) (fun _ => h0 _) dX1_init_25 ?_
  refine r_aload_n (j := 0) B dX1_init_28 rfl rfl ?_
  refine r_bipush (v := 6) B dX1_init_29 (by decide) ?_
  obtain ⟨hg19, h⟩ := gd_e h
  obtain ⟨s20, e21, h⟩ := nam_e h
  refine r_newa 0 (by decide) B rfl (by decide) (N := 6) (by decide) rfl e21 hg19 q204 (fun _ => h0 _) dX1_init_31 ?_
  obtain ⟨hg22, h⟩ := gd_e h
  obtain ⟨s23, e24, h⟩ := nam_e h
  refine pR1F (k := 3) B e24 rfl (fun _ => isK_e hg22) rfl q211 rfl rfl rfl rfl (Or.inr ⟨_, rfl⟩) (fun _ => h0 _) dX1_init_33 ?_
  refine r_aload_n (j := 0) B dX1_init_36 rfl rfl ?_
  refine r_bipush (v := 6) B dX1_init_37 (by decide) ?_
  obtain ⟨hg25, h⟩ := gd_e h
  obtain ⟨s26, e27, h⟩ := nam_e h
  refine r_newa 0 (by decide) B rfl (by decide) (N := 6) (by decide) rfl e27 hg25 q204 (fun _ => h0 _) dX1_init_39 ?_
  obtain ⟨hg28, h⟩ := gd_e h
  obtain ⟨s29, e30, h⟩ := nam_e h
  refine pR1F (k := 4) B e30 rfl (fun _ => isK_e hg28) rfl q213 rfl rfl rfl rfl (Or.inr ⟨_, rfl⟩) (fun _ => h0 _) dX1_init_41 ?_
  refine r_aload_n (j := 0) B dX1_init_44 rfl rfl ?_
  refine r_bipush (v := 9) B dX1_init_45 (by decide) ?_
  obtain ⟨hg31, h⟩ := gd_e h
  obtain ⟨s32, e33, h⟩ := nam_e h
  refine r_newa 0 (by decide) B rfl (by decide) (N := 9) (by decide) rfl e33 hg31 q204 (fun _ => h0 _) dX1_init_47 ?_
  refine r_dup B dX1_init_49 rfl ?_
  refine r_iconst (v := 0) B dX1_init_50 (by decide) ?_
  refine r_iconst (v := 3) B dX1_init_51 (by decide) ?_
  obtain ⟨hg34, h⟩ := gd_e h
  obtain ⟨hg35, h⟩ := gd_e h
  obtain ⟨s36, e37, h⟩ := nam_e h
  refine r_iast B e37 rfl (fun _ => isK_a hg34) hg35 dX1_init_52 ?_
  refine r_dup B dX1_init_53 rfl ?_
  refine r_iconst (v := 1) B dX1_init_54 (by decide) ?_
  refine r_iconst (v := 0) B dX1_init_55 (by decide) ?_
  obtain ⟨hg38, h⟩ := gd_e h
  obtain ⟨hg39, h⟩ := gd_e h
  obtain ⟨s40, e41, h⟩ := nam_e h
  refine r_iast B e41 rfl (fun _ => isK_a hg38) hg39 dX1_init_56 ?_
  refine r_dup B dX1_init_57 rfl ?_
  refine r_iconst (v := 2) B dX1_init_58 (by decide) ?_
  refine r_iconst (v := 3) B dX1_init_59 (by decide) ?_
  obtain ⟨hg42, h⟩ := gd_e h
  obtain ⟨hg43, h⟩ := gd_e h
  obtain ⟨s44, e45, h⟩ := nam_e h
  refine r_iast B e45 rfl (fun _ => isK_a hg42) hg43 dX1_init_60 ?_
  refine r_dup B dX1_init_61 rfl ?_
  refine r_iconst (v := 3) B dX1_init_62 (by decide) ?_
  refine r_iconst (v := 3) B dX1_init_63 (by decide) ?_
  obtain ⟨hg46, h⟩ := gd_e h
  obtain ⟨hg47, h⟩ := gd_e h
  obtain ⟨s48, e49, h⟩ := nam_e h
  refine r_iast B e49 rfl (fun _ => isK_a hg46) hg47 dX1_init_64 ?_
  refine r_dup B dX1_init_65 rfl ?_
  refine r_iconst (v := 4) B dX1_init_66 (by decide) ?_
  refine r_iconst (v := 2) B dX1_init_67 (by decide) ?_
  obtain ⟨hg50, h⟩ := gd_e h
  obtain ⟨hg51, h⟩ := gd_e h
  obtain ⟨s52, e53, h⟩ := nam_e h
  refine r_iast B e53 rfl (fun _ => isK_a hg50) hg51 dX1_init_68 ?_
  refine r_dup B dX1_init_69 rfl ?_
  refine r_iconst (v := 5) B dX1_init_70 (by decide) ?_
  refine r_iconst (v := 0) B dX1_init_71 (by decide) ?_
  obtain ⟨hg54, h⟩ := gd_e h
  obtain ⟨hg55, h⟩ := gd_e h
  obtain ⟨s56, e57, h⟩ := nam_e h
  refine r_iast B e57 rfl (fun _ => isK_a hg54) hg55 dX1_init_72 ?_
  refine r_dup B dX1_init_73 rfl ?_
  refine r_bipush (v := 6) B dX1_init_74 (by decide) ?_
  refine r_iconst (v := -1) B dX1_init_76 (by decide) ?_
  obtain ⟨hg58, h⟩ := gd_e h
  obtain ⟨hg59, h⟩ := gd_e h
  obtain ⟨s60, e61, h⟩ := nam_e h
  refine r_iast B e61 rfl (fun _ => isK_a hg58) hg59 dX1_init_77 ?_
  refine r_dup B dX1_init_78 rfl ?_
  refine r_bipush (v := 7) B dX1_init_79 (by decide) ?_
  refine r_bipush (v := 9) B dX1_init_81 (by decide) ?_
  obtain ⟨hg62, h⟩ := gd_e h
  obtain ⟨hg63, h⟩ := gd_e h
  obtain ⟨s64, e65, h⟩ := nam_e h
  refine r_iast B e65 rfl (fun _ => isK_a hg62) hg63 dX1_init_83 ?_
  refine r_dup B dX1_init_84 rfl ?_
  refine r_bipush (v := 8) B dX1_init_85 (by decide) ?_
  refine r_iconst (v := 0) B dX1_init_87 (by decide) ?_
  obtain ⟨hg66, h⟩ := gd_e h
  obtain ⟨hg67, h⟩ := gd_e h
  obtain ⟨s68, e69, h⟩ := nam_e h
  refine r_iast B e69 rfl (fun _ => isK_a hg66) hg67 dX1_init_88 ?_
  obtain ⟨hg70, h⟩ := gd_e h
  obtain ⟨s71, e72, h⟩ := nam_e h
  refine pR1F (k := 5) B e72 rfl (fun _ => isK_e hg70) rfl q215 rfl rfl rfl rfl (Or.inr ⟨_, rfl⟩) (fun _ => h0 _) dX1_init_89 ?_
  refine r_aload_n (j := 0) B dX1_init_92 rfl rfl ?_
  refine r_bipush (v := 8) B dX1_init_93 (by decide) ?_
  obtain ⟨hg73, h⟩ := gd_e h
  obtain ⟨s74, e75, h⟩ := nam_e h
  refine r_newa 0 (by decide) B rfl (by decide) (N := 8) (by decide) rfl e75 hg73 q204 (fun _ => h0 _) dX1_init_95 ?_
  obtain ⟨hg76, h⟩ := gd_e h
  obtain ⟨s77, e78, h⟩ := nam_e h
  refine pR1F (k := 6) B e78 rfl (fun _ => isK_e hg76) rfl q217 rfl rfl rfl rfl (Or.inr ⟨_, rfl⟩) (fun _ => h0 _) dX1_init_97 ?_
  refine r_aload_n (j := 0) B dX1_init_100 rfl rfl ?_
  obtain ⟨hg79, h⟩ := gd_e h
  obtain ⟨s80, e81, h⟩ := nam_e h
  refine r_new B e81 hg79 (c := 18) rfl (by decide) rfl in_J2 tyJ2_ok rfl q176 q177 q130 (fun _ => h0 _) dX1_init_101 ?_
  refine r_dup B dX1_init_104 rfl ?_
  refine r_iconst (v := 2) B dX1_init_105 (by decide) ?_
  obtain ⟨r82, s83, hc84, h⟩ := bnd_e h
  refine r_callI (As := [vi (2 : Int32)]) (rest := [vr (some (sn s77)), vr (some this)]) B rfl rfl EX.same (c_J2_init B.ge h0 hc84) (cw_J2_init rfl rfl) rfl q178 q179 rfl dX1_init_106 ?_
  obtain ⟨hg85, h⟩ := gd_e h
  obtain ⟨s86, e87, h⟩ := nam_e h
  refine pR1F (k := 7) B e87 rfl (fun _ => isK_e hg85) rfl q219 rfl rfl rfl rfl (Or.inl ⟨_, rfl⟩) (fun _ => h0 _) dX1_init_109 ?_
  refine r_aload_n (j := 0) B dX1_init_112 rfl rfl ?_
  refine r_iconst (v := -1) B dX1_init_113 (by decide) ?_
  obtain ⟨hg88, h⟩ := gd_e h
  obtain ⟨s89, e90, h⟩ := nam_e h
  refine pI1 (k := 10) B e90 rfl (fun _ => isK_e hg88) rfl q225 rfl rfl (fun _ _ _ => rfl) rfl dX1_init_114 ?_
  exact r_vret B dX1_init_117 h
set_option maxHeartbeats 4000000 in
theorem cw_X1_init {X : CX} {fr lo : Nat} (h1 : Nat.ble (4 + 1) fr = true) (h2 : Nat.ble (20 + 81) lo = true) : CW X fr lo yX1_init cX1_init 1 none 4 81 0 := ⟨q174, q127, ⟨by decide +kernel, by decide +kernel, by decide +kernel⟩, Nat.le_of_ble_eq_true h1, Nat.le_of_ble_eq_true h2⟩

set_option maxHeartbeats 4000000 in
noncomputable def F_X3_init (s : St) (this : Nat)  : Option (Unit × St) := bnd (F_J4_init s this none none (0 : Int32) (0 : Int32)) fun _ s2 => some ((), s2)
set_option maxHeartbeats 4000000 in
theorem c_X3_init {l : Launch} {E : EV} (hE : GE E) (h0 : ∀ σ, eSk E σ) {s s' : St} {r : Unit} {this : Nat}  (h : F_X3_init  s this = some (r, s')) : CT l E yX3_init cX3_init 1 none 3 68 [vr (some this)] s none s' := by
  refine CT.start hE (by decide) rfl [(0, vr (some this))] rfl (fun X hX B => ?_)
  skip
  have B : FX X E cX3_init 1 none "RoseThrow$Broken" "<init>" (sn s) (ss s) 3 68 := B
  unfold F_X3_init at h
  refine r_aload_n (j := 0) B dX3_init_0 rfl rfl ?_
  refine r_null B dX3_init_1 ?_
  refine r_null B dX3_init_2 ?_
  refine r_iconst (v := 0) B dX3_init_3 (by decide) ?_
  refine r_iconst (v := 0) B dX3_init_4 (by decide) ?_
  obtain ⟨r1, s2, hc3, h⟩ := bnd_e h
  refine r_callI (As := [vr none, vr none, vi (0 : Int32), vi (0 : Int32)]) (rest := []) B rfl rfl EX.same (c_J4_init B.ge h0 hc3) (cw_J4_init rfl rfl) rfl q298 q299 rfl dX3_init_5 ?_
  exact r_vret B dX3_init_8 h
set_option maxHeartbeats 4000000 in
theorem cw_X3_init {X : CX} {fr lo : Nat} (h1 : Nat.ble (3 + 1) fr = true) (h2 : Nat.ble (20 + 68) lo = true) : CW X fr lo yX3_init cX3_init 1 none 3 68 0 := ⟨q297, q134, ⟨by decide +kernel, by decide +kernel, by decide +kernel⟩, Nat.le_of_ble_eq_true h1, Nat.le_of_ble_eq_true h2⟩

set_option maxHeartbeats 4000000 in
noncomputable def F_X2_init (s : St) (this : Nat)  : Option (Unit × St) := gd (okN s 6) <| nam (newO s (3, 0) 6) fun s2 => bnd (F_X3_init s2 (sn s)) fun _ s5 => gd (isK s5 this 2) <| nam (setR s5 this 0 (some (sn s))) fun s8 => gd (okN s8 15) <| nam (newO s8 (101, 15) 15) fun s11 => gd (isK s11 this 2) <| nam (setR s11 this 1 (some (sn s8))) fun s14 => some ((), s14)
set_option maxHeartbeats 4000000 in
theorem c_X2_init {l : Launch} {E : EV} (hE : GE E) (h0 : ∀ σ, eSk E σ) {s s' : St} {r : Unit} {this : Nat}  (h : F_X2_init  s this = some (r, s')) : CT l E yX2_init cX2_init 1 none 4 88 [vr (some this)] s none s' := by
  refine CT.start hE (by decide) rfl [(0, vr (some this))] rfl (fun X hX B => ?_)
  skip
  have B : FX X E cX2_init 1 none "RoseThrow$Setting" "<init>" (sn s) (ss s) 4 88 := B
  unfold F_X2_init at h
  refine r_aload_n (j := 0) B dX2_init_0 rfl rfl ?_
  refine r_objInit B rfl q256 q168 q169 (by decide) (by decide) rfl dX2_init_1 ?_
  refine r_aload_n (j := 0) B dX2_init_4 rfl rfl ?_
  obtain ⟨hg1, h⟩ := gd_e h
  obtain ⟨s2, e3, h⟩ := nam_e h
  refine r_new B e3 hg1 (c := 3) rfl (by decide) rfl in_X3 tyX3_ok rfl q257 q258 q134 (fun _ => h0 _) dX2_init_5 ?_
  refine r_dup B dX2_init_8 rfl ?_
  obtain ⟨r4, s5, hc6, h⟩ := bnd_e h
  refine r_callI (As := []) (rest := [vr (some (sn s)), vr (some this)]) B rfl rfl EX.same (c_X3_init B.ge h0 hc6) (cw_X3_init rfl rfl) rfl q295 q296 rfl dX2_init_9 ?_
  obtain ⟨hg7, h⟩ := gd_e h
  obtain ⟨s8, e9, h⟩ := nam_e h
  refine pR2F (k := 0) B e9 rfl (fun _ => isK_e hg7) rfl q318 rfl rfl rfl rfl (Or.inl ⟨_, rfl⟩) (fun _ => h0 _) dX2_init_12 ?_
  refine r_aload_n (j := 0) B dX2_init_15 rfl rfl ?_
  refine r_bipush (v := 15) B dX2_init_16 (by decide) ?_
  obtain ⟨hg10, h⟩ := gd_e h
  obtain ⟨s11, e12, h⟩ := nam_e h
  refine r_newa 1 (by decide) B rfl (by decide) (N := 15) (by decide) rfl e12 hg10 q328 (fun _ => h0 _) dX2_init_18 ?_
  obtain ⟨hg13, h⟩ := gd_e h
  obtain ⟨s14, e15, h⟩ := nam_e h
  refine pR2F (k := 1) B e15 rfl (fun _ => isK_e hg13) rfl q320 rfl rfl rfl rfl (Or.inr ⟨_, rfl⟩) (fun _ => h0 _) dX2_init_20 ?_
  exact r_vret B dX2_init_23 h
set_option maxHeartbeats 4000000 in
theorem cw_X2_init {X : CX} {fr lo : Nat} (h1 : Nat.ble (4 + 1) fr = true) (h2 : Nat.ble (20 + 88) lo = true) : CW X fr lo yX2_init cX2_init 1 none 4 88 0 := ⟨q255, q131, ⟨by decide +kernel, by decide +kernel, by decide +kernel⟩, Nat.le_of_ble_eq_true h1, Nat.le_of_ble_eq_true h2⟩

set_option maxHeartbeats 4000000 in
noncomputable def F_X4_init (s : St) (this : Nat) (p0 : Option Nat) : Option (Unit × St) := gd (isK s this 4) <| nam (setR s this 4 p0) fun s2 => gd (okN s2 9) <| nam (newO s2 (100, 9) 9) fun s5 => gd (isK s5 this 4) <| nam (setR s5 this 0 (some (sn s2))) fun s8 => gd (okN s8 9) <| nam (newO s8 (100, 9) 9) fun s11 => gd (isK s11 this 4) <| nam (setR s11 this 1 (some (sn s8))) fun s14 => some ((), s14)
set_option maxHeartbeats 4000000 in
theorem c_X4_init {l : Launch} {E : EV} (hE : GE E) (h0 : ∀ σ, eSk E σ) {s s' : St} {r : Unit} {this : Nat} {p0 : Option Nat} (h : F_X4_init  s this p0 = some (r, s')) : CT l E yX4_init cX4_init 2 none 1 20 [vr (some this), vr p0] s none s' := by
  refine CT.start hE (by decide) rfl [(0, vr (some this)), (1, vr p0)] rfl (fun X hX B => ?_)
  skip
  have B : FX X E cX4_init 2 none "RoseThrow$Flight" "<init>" (sn s) (ss s) 1 20 := B
  unfold F_X4_init at h
  refine r_aload_n (j := 0) B dX4_init_0 rfl rfl ?_
  refine r_aload_n (j := 1) B dX4_init_1 rfl rfl ?_
  obtain ⟨hg1, h⟩ := gd_e h
  obtain ⟨s2, e3, h⟩ := nam_e h
  refine pR4F (k := 4) B e3 rfl (fun _ => isK_e hg1) rfl q343 rfl rfl rfl rfl (Or.inl ⟨_, rfl⟩) (fun _ => h0 _) dX4_init_2 ?_
  refine r_aload_n (j := 0) B dX4_init_5 rfl rfl ?_
  refine r_objInit B rfl q334 q168 q169 (by decide) (by decide) rfl dX4_init_6 ?_
  refine r_aload_n (j := 0) B dX4_init_9 rfl rfl ?_
  refine r_bipush (v := 9) B dX4_init_10 (by decide) ?_
  obtain ⟨hg4, h⟩ := gd_e h
  obtain ⟨s5, e6, h⟩ := nam_e h
  refine r_newa 0 (by decide) B rfl (by decide) (N := 9) (by decide) rfl e6 hg4 q204 (fun _ => h0 _) dX4_init_12 ?_
  obtain ⟨hg7, h⟩ := gd_e h
  obtain ⟨s8, e9, h⟩ := nam_e h
  refine pR4F (k := 0) B e9 rfl (fun _ => isK_e hg7) rfl q335 rfl rfl rfl rfl (Or.inr ⟨_, rfl⟩) (fun _ => h0 _) dX4_init_14 ?_
  refine r_aload_n (j := 0) B dX4_init_17 rfl rfl ?_
  refine r_bipush (v := 9) B dX4_init_18 (by decide) ?_
  obtain ⟨hg10, h⟩ := gd_e h
  obtain ⟨s11, e12, h⟩ := nam_e h
  refine r_newa 0 (by decide) B rfl (by decide) (N := 9) (by decide) rfl e12 hg10 q204 (fun _ => h0 _) dX4_init_20 ?_
  obtain ⟨hg13, h⟩ := gd_e h
  obtain ⟨s14, e15, h⟩ := nam_e h
  refine pR4F (k := 1) B e15 rfl (fun _ => isK_e hg13) rfl q337 rfl rfl rfl rfl (Or.inr ⟨_, rfl⟩) (fun _ => h0 _) dX4_init_22 ?_
  exact r_vret B dX4_init_25 h
set_option maxHeartbeats 4000000 in
theorem cw_X4_init {X : CX} {fr lo : Nat} (h1 : Nat.ble (1 + 1) fr = true) (h2 : Nat.ble (21 + 20) lo = true) : CW X fr lo yX4_init cX4_init 2 none 1 20 1 := ⟨q333, q135, ⟨by decide +kernel, by decide +kernel, by decide +kernel⟩, Nat.le_of_ble_eq_true h1, Nat.le_of_ble_eq_true h2⟩

set_option maxHeartbeats 4000000 in
noncomputable def F_X0_init (s : St) (this : Nat)  : Option (Unit × St) := gd (okN s 7) <| nam (newO s (100, 7) 7) fun s2 => gd (isK s2 this 0) <| nam (setR s2 this 1 (some (sn s))) fun s5 => gd (okN s5 11) <| nam (newO s5 (1, 0) 11) fun s8 => bnd (F_X1_init s8 (sn s5)) fun _ s11 => gd (isK s11 this 0) <| nam (setR s11 this 2 (some (sn s5))) fun s14 => gd (okN s14 2) <| nam (newO s14 (105, 2) 2) fun s17 => gd (isK s17 this 0) <| nam (setR s17 this 3 (some (sn s14))) fun s20 => gd (okN s20 96) <| nam (newO s20 (100, 96) 96) fun s23 => gd (isK s23 this 0) <| nam (setR s23 this 4 (some (sn s20))) fun s26 => gd (okN s26 16) <| nam (newO s26 (100, 16) 16) fun s29 => gd (isK s29 this 0) <| nam (setR s29 this 5 (some (sn s26))) fun s32 => gd (okN s32 96) <| nam (newO s32 (100, 96) 96) fun s35 => gd (isK s35 this 0) <| nam (setR s35 this 6 (some (sn s32))) fun s38 => gd (okN s38 16) <| nam (newO s38 (100, 16) 16) fun s41 => gd (isK s41 this 0) <| nam (setR s41 this 7 (some (sn s38))) fun s44 => gd (okN s44 6) <| nam (newO s44 (100, 6) 6) fun s47 => gd (isK s47 this 0) <| nam (setR s47 this 8 (some (sn s44))) fun s50 => gd (okN s50 6) <| nam (newO s50 (100, 6) 6) fun s53 => gd (isK s53 this 0) <| nam (setR s53 this 9 (some (sn s50))) fun s56 => gd (okN s56 400) <| nam (newO s56 (102, 400) 400) fun s59 => gd (isK s59 this 0) <| nam (setR s59 this 10 (some (sn s56))) fun s62 => gd (isK s62 this 0) <| nam (setI s62 this 12 (-1 : Int32)) fun s65 => gd (isK s65 this 0) <| nam (setI s65 this 14 (-1 : Int32)) fun s68 => gd (okN s68 2) <| nam (newO s68 (2, 0) 2) fun s71 => bnd (F_X2_init s71 (sn s68)) fun _ s74 => gd (isK s74 this 0) <| nam (setR s74 this 16 (some (sn s68))) fun s77 => gd (okN s77 5) <| nam (newO s77 (4, 0) 5) fun s80 => bnd (F_X4_init s80 (sn s77) (some this)) fun _ s83 => gd (isK s83 this 0) <| nam (setR s83 this 17 (some (sn s77))) fun s86 => gd (okN s86 25) <| nam (newO s86 (106, 25) 25) fun s89 => gd (isK s89 this 0) <| nam (setR s89 this 18 (some (sn s86))) fun s92 => gd (okN s92 66) <| nam (newO s92 (100, 66) 66) fun s95 => gd (isK s95 this 0) <| nam (setR s95 this 19 (some (sn s92))) fun s98 => gd (okN s98 6) <| nam (newO s98 (100, 6) 6) fun s101 => gd (isK s101 this 0) <| nam (setR s101 this 21 (some (sn s98))) fun s104 => gd (okN s104 6) <| nam (newO s104 (100, 6) 6) fun s107 => gd (isK s107 this 0) <| nam (setR s107 this 24 (some (sn s104))) fun s110 => gd (okN s110 6) <| nam (newO s110 (100, 6) 6) fun s113 => gd (isK s113 this 0) <| nam (setR s113 this 25 (some (sn s110))) fun s116 => some ((), s116)
set_option maxHeartbeats 4000000 in
theorem c_X0_init {l : Launch} {E : EV} (hE : GE E) (h0 : ∀ σ, eSk E σ) {s s' : St} {r : Unit} {this : Nat}  (h : F_X0_init  s this = some (r, s')) : CT l E yX0_init cX0_init 1 none 5 108 [vr (some this)] s none s' := by
  refine CT.start hE (by decide) rfl [(0, vr (some this))] rfl (fun X hX B => ?_)
  skip
  have B : FX X E cX0_init 1 none "RoseThrow" "<init>" (sn s) (ss s) 5 108 := B
  unfold F_X0_init at h
  refine r_aload_n (j := 0) B dX0_init_0 rfl rfl ?_
  refine r_objInit B rfl q167 q168 q169 (by decide) (by decide) rfl dX0_init_1 ?_
  refine r_aload_n (j := 0) B dX0_init_4 rfl rfl ?_
  refine r_bipush (v := 7) B dX0_init_5 (by decide) ?_
  obtain ⟨hg1, h⟩ := gd_e h
  obtain ⟨s2, e3, h⟩ := nam_e h
  refine r_newa 0 (by decide) B rfl (by decide) (N := 7) (by decide) rfl e3 hg1 q204 (fun _ => h0 _) dX0_init_7 ?_
  obtain ⟨hg4, h⟩ := gd_e h
  obtain ⟨s5, e6, h⟩ := nam_e h
  refine pR0F (k := 1) B e6 rfl (fun _ => isK_e hg4) rfl q357 rfl rfl rfl rfl (Or.inr ⟨_, rfl⟩) (fun _ => h0 _) dX0_init_9 ?_
  refine r_aload_n (j := 0) B dX0_init_12 rfl rfl ?_
  obtain ⟨hg7, h⟩ := gd_e h
  obtain ⟨s8, e9, h⟩ := nam_e h
  refine r_new B e9 hg7 (c := 1) rfl (by decide) rfl in_X1 tyX1_ok rfl q170 q171 q127 (fun _ => h0 _) dX0_init_13 ?_
  refine r_dup B dX0_init_16 rfl ?_
  obtain ⟨r10, s11, hc12, h⟩ := bnd_e h
  refine r_callIN (As := []) (rest := [vr (some (sn s5)), vr (some this)]) B rfl rfl EX.same (c_X1_init B.ge h0 hc12) (cw_X1_init rfl rfl) rfl (lw_n q172 rfl) q173 rfl dX0_init_17 ?_
  obtain ⟨hg13, h⟩ := gd_e h
  obtain ⟨s14, e15, h⟩ := nam_e h
  refine pR0F (k := 2) B e15 rfl (fun _ => isK_e hg13) rfl q358 rfl rfl rfl rfl (Or.inl ⟨_, rfl⟩) (fun _ => h0 _) dX0_init_20 ?_
  refine r_aload_n (j := 0) B dX0_init_23 rfl rfl ?_
  refine r_iconst (v := 2) B dX0_init_24 (by decide) ?_
  obtain ⟨hg16, h⟩ := gd_e h
  obtain ⟨s17, e18, h⟩ := nam_e h
  refine r_newq 5 "RoseThrow$State" ⟨by decide, by decide, rfl⟩ B (by decide) (N := 2) (by decide) rfl e18 hg16 q170 (fun _ => h0 _) dX0_init_25 ?_
  obtain ⟨hg19, h⟩ := gd_e h
  obtain ⟨s20, e21, h⟩ := nam_e h
  refine pR0F (k := 3) B e21 rfl (fun _ => isK_e hg19) rfl q359 rfl rfl rfl rfl (Or.inr ⟨_, rfl⟩) (fun _ => h0 _) dX0_init_28 ?_
  refine r_aload_n (j := 0) B dX0_init_31 rfl rfl ?_
  refine r_bipush (v := 96) B dX0_init_32 (by decide) ?_
  obtain ⟨hg22, h⟩ := gd_e h
  obtain ⟨s23, e24, h⟩ := nam_e h
  refine r_newa 0 (by decide) B rfl (by decide) (N := 96) (by decide) rfl e24 hg22 q204 (fun _ => h0 _) dX0_init_34 ?_
  obtain ⟨hg25, h⟩ := gd_e h
  obtain ⟨s26, e27, h⟩ := nam_e h
  refine pR0F (k := 4) B e27 rfl (fun _ => isK_e hg25) rfl q360 rfl rfl rfl rfl (Or.inr ⟨_, rfl⟩) (fun _ => h0 _) dX0_init_36 ?_
  refine r_aload_n (j := 0) B dX0_init_39 rfl rfl ?_
  refine r_bipush (v := 16) B dX0_init_40 (by decide) ?_
  obtain ⟨hg28, h⟩ := gd_e h
  obtain ⟨s29, e30, h⟩ := nam_e h
  refine r_newa 0 (by decide) B rfl (by decide) (N := 16) (by decide) rfl e30 hg28 q204 (fun _ => h0 _) dX0_init_42 ?_
  obtain ⟨hg31, h⟩ := gd_e h
  obtain ⟨s32, e33, h⟩ := nam_e h
  refine pR0F (k := 5) B e33 rfl (fun _ => isK_e hg31) rfl q361 rfl rfl rfl rfl (Or.inr ⟨_, rfl⟩) (fun _ => h0 _) dX0_init_44 ?_
  refine r_aload_n (j := 0) B dX0_init_47 rfl rfl ?_
  refine r_bipush (v := 96) B dX0_init_48 (by decide) ?_
  obtain ⟨hg34, h⟩ := gd_e h
  obtain ⟨s35, e36, h⟩ := nam_e h
  refine r_newa 0 (by decide) B rfl (by decide) (N := 96) (by decide) rfl e36 hg34 q204 (fun _ => h0 _) dX0_init_50 ?_
  obtain ⟨hg37, h⟩ := gd_e h
  obtain ⟨s38, e39, h⟩ := nam_e h
  refine pR0F (k := 6) B e39 rfl (fun _ => isK_e hg37) rfl q362 rfl rfl rfl rfl (Or.inr ⟨_, rfl⟩) (fun _ => h0 _) dX0_init_52 ?_
  refine r_aload_n (j := 0) B dX0_init_55 rfl rfl ?_
  refine r_bipush (v := 16) B dX0_init_56 (by decide) ?_
  obtain ⟨hg40, h⟩ := gd_e h
  obtain ⟨s41, e42, h⟩ := nam_e h
  refine r_newa 0 (by decide) B rfl (by decide) (N := 16) (by decide) rfl e42 hg40 q204 (fun _ => h0 _) dX0_init_58 ?_
  obtain ⟨hg43, h⟩ := gd_e h
  obtain ⟨s44, e45, h⟩ := nam_e h
  refine pR0F (k := 7) B e45 rfl (fun _ => isK_e hg43) rfl q363 rfl rfl rfl rfl (Or.inr ⟨_, rfl⟩) (fun _ => h0 _) dX0_init_60 ?_
  refine r_aload_n (j := 0) B dX0_init_63 rfl rfl ?_
  refine r_bipush (v := 6) B dX0_init_64 (by decide) ?_
  obtain ⟨hg46, h⟩ := gd_e h
  obtain ⟨s47, e48, h⟩ := nam_e h
  refine r_newa 0 (by decide) B rfl (by decide) (N := 6) (by decide) rfl e48 hg46 q204 (fun _ => h0 _) dX0_init_66 ?_
  obtain ⟨hg49, h⟩ := gd_e h
  obtain ⟨s50, e51, h⟩ := nam_e h
  refine pR0F (k := 8) B e51 rfl (fun _ => isK_e hg49) rfl q364 rfl rfl rfl rfl (Or.inr ⟨_, rfl⟩) (fun _ => h0 _) dX0_init_68 ?_
  refine r_aload_n (j := 0) B dX0_init_71 rfl rfl ?_
  refine r_bipush (v := 6) B dX0_init_72 (by decide) ?_
  obtain ⟨hg52, h⟩ := gd_e h
  obtain ⟨s53, e54, h⟩ := nam_e h
  refine r_newa 0 (by decide) B rfl (by decide) (N := 6) (by decide) rfl e54 hg52 q204 (fun _ => h0 _) dX0_init_74 ?_
  obtain ⟨hg55, h⟩ := gd_e h
  obtain ⟨s56, e57, h⟩ := nam_e h
  refine pR0F (k := 9) B e57 rfl (fun _ => isK_e hg55) rfl q365 rfl rfl rfl rfl (Or.inr ⟨_, rfl⟩) (fun _ => h0 _) dX0_init_76 ?_
  refine r_aload_n (j := 0) B dX0_init_79 rfl rfl ?_
  refine r_sipush (v := 400) B dX0_init_80 (by decide) ?_
  obtain ⟨hg58, h⟩ := gd_e h
  obtain ⟨s59, e60, h⟩ := nam_e h
  refine r_newa 2 (by decide) B rfl (by decide) (N := 400) (by decide) rfl e60 hg58 q317 (fun _ => h0 _) dX0_init_83 ?_
  obtain ⟨hg61, h⟩ := gd_e h
  obtain ⟨s62, e63, h⟩ := nam_e h
  refine pR0F (k := 10) B e63 rfl (fun _ => isK_e hg61) rfl q366 rfl rfl rfl rfl (Or.inr ⟨_, rfl⟩) (fun _ => h0 _) dX0_init_85 ?_
  refine r_aload_n (j := 0) B dX0_init_88 rfl rfl ?_
  refine r_iconst (v := -1) B dX0_init_89 (by decide) ?_
  obtain ⟨hg64, h⟩ := gd_e h
  obtain ⟨s65, e66, h⟩ := nam_e h
  refine pI0 (k := 12) B e66 rfl (fun _ => isK_e hg64) rfl q368 rfl rfl (fun _ _ _ => rfl) rfl dX0_init_90 ?_
  refine r_aload_n (j := 0) B dX0_init_93 rfl rfl ?_
  refine r_iconst (v := -1) B dX0_init_94 (by decide) ?_
  obtain ⟨hg67, h⟩ := gd_e h
  obtain ⟨s68, e69, h⟩ := nam_e h
  refine pI0 (k := 14) B e69 rfl (fun _ => isK_e hg67) rfl q370 rfl rfl (fun _ _ _ => rfl) rfl dX0_init_95 ?_
  refine r_aload_n (j := 0) B dX0_init_98 rfl rfl ?_
  obtain ⟨hg70, h⟩ := gd_e h
  obtain ⟨s71, e72, h⟩ := nam_e h
  refine r_new B e72 hg70 (c := 2) rfl (by decide) rfl in_X2 tyX2_ok rfl q251 q252 q131 (fun _ => h0 _) dX0_init_99 ?_
  refine r_dup B dX0_init_102 rfl ?_
  obtain ⟨r73, s74, hc75, h⟩ := bnd_e h
  refine r_callIN (As := []) (rest := [vr (some (sn s68)), vr (some this)]) B rfl rfl EX.same (c_X2_init B.ge h0 hc75) (cw_X2_init rfl rfl) rfl (lw_n q253 rfl) q254 rfl dX0_init_103 ?_
  obtain ⟨hg76, h⟩ := gd_e h
  obtain ⟨s77, e78, h⟩ := nam_e h
  refine pR0F (k := 16) B e78 rfl (fun _ => isK_e hg76) rfl q372 rfl rfl rfl rfl (Or.inl ⟨_, rfl⟩) (fun _ => h0 _) dX0_init_106 ?_
  refine r_aload_n (j := 0) B dX0_init_109 rfl rfl ?_
  obtain ⟨hg79, h⟩ := gd_e h
  obtain ⟨s80, e81, h⟩ := nam_e h
  refine r_new B e81 hg79 (c := 4) rfl (by decide) rfl in_X4 tyX4_ok rfl q329 q330 q135 (fun _ => h0 _) dX0_init_110 ?_
  refine r_dup B dX0_init_113 rfl ?_
  refine r_aload_n (j := 0) B dX0_init_114 rfl rfl ?_
  obtain ⟨r82, s83, hc84, h⟩ := bnd_e h
  refine r_callIN (As := [vr (some this)]) (rest := [vr (some (sn s77)), vr (some this)]) B rfl rfl EX.same (c_X4_init B.ge h0 hc84) (cw_X4_init rfl rfl) rfl (lw_n q331 rfl) q332 rfl dX0_init_115 ?_
  obtain ⟨hg85, h⟩ := gd_e h
  obtain ⟨s86, e87, h⟩ := nam_e h
  refine pR0F (k := 17) B e87 rfl (fun _ => isK_e hg85) rfl q373 rfl rfl rfl rfl (Or.inl ⟨_, rfl⟩) (fun _ => h0 _) dX0_init_118 ?_
  refine r_aload_n (j := 0) B dX0_init_121 rfl rfl ?_
  refine r_bipush (v := 25) B dX0_init_122 (by decide) ?_
  obtain ⟨hg88, h⟩ := gd_e h
  obtain ⟨s89, e90, h⟩ := nam_e h
  refine r_newq 6 "RoseThrow$Flight" ⟨by decide, by decide, rfl⟩ B (by decide) (N := 25) (by decide) rfl e90 hg88 q329 (fun _ => h0 _) dX0_init_124 ?_
  obtain ⟨hg91, h⟩ := gd_e h
  obtain ⟨s92, e93, h⟩ := nam_e h
  refine pR0F (k := 18) B e93 rfl (fun _ => isK_e hg91) rfl q374 rfl rfl rfl rfl (Or.inr ⟨_, rfl⟩) (fun _ => h0 _) dX0_init_127 ?_
  refine r_aload_n (j := 0) B dX0_init_130 rfl rfl ?_
  refine r_bipush (v := 66) B dX0_init_131 (by decide) ?_
  obtain ⟨hg94, h⟩ := gd_e h
  obtain ⟨s95, e96, h⟩ := nam_e h
  refine r_newa 0 (by decide) B rfl (by decide) (N := 66) (by decide) rfl e96 hg94 q204 (fun _ => h0 _) dX0_init_133 ?_
  obtain ⟨hg97, h⟩ := gd_e h
  obtain ⟨s98, e99, h⟩ := nam_e h
  refine pR0F (k := 19) B e99 rfl (fun _ => isK_e hg97) rfl q375 rfl rfl rfl rfl (Or.inr ⟨_, rfl⟩) (fun _ => h0 _) dX0_init_135 ?_
  refine r_aload_n (j := 0) B dX0_init_138 rfl rfl ?_
  refine r_bipush (v := 6) B dX0_init_139 (by decide) ?_
  obtain ⟨hg100, h⟩ := gd_e h
  obtain ⟨s101, e102, h⟩ := nam_e h
  refine r_newa 0 (by decide) B rfl (by decide) (N := 6) (by decide) rfl e102 hg100 q204 (fun _ => h0 _) dX0_init_141 ?_
  obtain ⟨hg103, h⟩ := gd_e h
  obtain ⟨s104, e105, h⟩ := nam_e h
  refine pR0F (k := 21) B e105 rfl (fun _ => isK_e hg103) rfl q377 rfl rfl rfl rfl (Or.inr ⟨_, rfl⟩) (fun _ => h0 _) dX0_init_143 ?_
  refine r_aload_n (j := 0) B dX0_init_146 rfl rfl ?_
  refine r_bipush (v := 6) B dX0_init_147 (by decide) ?_
  obtain ⟨hg106, h⟩ := gd_e h
  obtain ⟨s107, e108, h⟩ := nam_e h
  refine r_newa 0 (by decide) B rfl (by decide) (N := 6) (by decide) rfl e108 hg106 q204 (fun _ => h0 _) dX0_init_149 ?_
  obtain ⟨hg109, h⟩ := gd_e h
  obtain ⟨s110, e111, h⟩ := nam_e h
  refine pR0F (k := 24) B e111 rfl (fun _ => isK_e hg109) rfl q380 rfl rfl rfl rfl (Or.inr ⟨_, rfl⟩) (fun _ => h0 _) dX0_init_151 ?_
  refine r_aload_n (j := 0) B dX0_init_154 rfl rfl ?_
  refine r_bipush (v := 6) B dX0_init_155 (by decide) ?_
  obtain ⟨hg112, h⟩ := gd_e h
  obtain ⟨s113, e114, h⟩ := nam_e h
  refine r_newa 0 (by decide) B rfl (by decide) (N := 6) (by decide) rfl e114 hg112 q204 (fun _ => h0 _) dX0_init_157 ?_
  obtain ⟨hg115, h⟩ := gd_e h
  obtain ⟨s116, e117, h⟩ := nam_e h
  refine pR0F (k := 25) B e117 rfl (fun _ => isK_e hg115) rfl q381 rfl rfl rfl rfl (Or.inr ⟨_, rfl⟩) (fun _ => h0 _) dX0_init_159 ?_
  exact r_vret B dX0_init_162 h
set_option maxHeartbeats 4000000 in
theorem cw_X0_init {X : CX} {fr lo : Nat} (h1 : Nat.ble (5 + 1) fr = true) (h2 : Nat.ble (20 + 108) lo = true) : CW X fr lo yX0_init cX0_init 1 none 5 108 0 := ⟨q166, q126, ⟨by decide +kernel, by decide +kernel, by decide +kernel⟩, Nat.le_of_ble_eq_true h1, Nat.le_of_ble_eq_true h2⟩

set_option maxHeartbeats 4000000 in
noncomputable def F_X0_in (s : St) (p0 : Int32) (p1 : Int32) (p2 : Int32) : Option (Int32 × St) := if p0 < p1 then (some ((0 : Int32), s)) else (if p2 < p0 then (some ((0 : Int32), s)) else (some ((1 : Int32), s)))
set_option maxHeartbeats 4000000 in
theorem c_X0_in {l : Launch} {E : EV} (hE : GE E) (hS : ∀ σ, eSk E σ ↔ SkC σ) {s s' : St} {r : Int32} {p0 : Int32} {p1 : Int32} {p2 : Int32} (h : F_X0_in  s p0 p1 p2 = some (r, s')) : CT l E yX0_in cX0_in 3 (some .boolean) 0 0 [vi p0, vi p1, vi p2] s (some (vi r)) s' := by
  refine CT.start hE (by decide) rfl [(0, vi p0), (1, vi p1), (2, vi p2)] rfl (fun X hX B => ?_)
  skip
  have B : FX X E cX0_in 3 (some .boolean) "RoseThrow" "in" (sn s) (ss s) 0 0 := B
  unfold F_X0_in at h
  refine r_iload_n (j := 0) B dX0_in_0 rfl rfl ?_
  refine r_iload_n (j := 1) B dX0_in_1 rfl rfl ?_
  refine r_ic_lt (tgt := 14) B dX0_in_2 (by decide) (fun cn1 => ?_) (fun cn1 => ?_)
  · have h := ot cn1 h
    refine r_iconst (v := 0) B dX0_in_14 (by decide) ?_
    exact r_zret B dX0_in_15 (by decide) h
  · have h := of cn1 h
    refine r_iload_n (j := 0) B dX0_in_5 rfl rfl ?_
    refine r_iload_n (j := 2) B dX0_in_6 rfl rfl ?_
    refine r_ic_gt (tgt := 14) B dX0_in_7 (by decide) (fun cn2 => ?_) (fun cn2 => ?_)
    · have h := ot cn2 h
      refine r_iconst (v := 0) B dX0_in_14 (by decide) ?_
      exact r_zret B dX0_in_15 (by decide) h
    · have h := of cn2 h
      refine r_iconst (v := 1) B dX0_in_10 (by decide) ?_
      refine r_goto (tgt := 15) B dX0_in_11 (by decide) ?_
      exact r_zret B dX0_in_15 (by decide) h
set_option maxHeartbeats 4000000 in
theorem cw_X0_in {X : CX} {fr lo : Nat} (h1 : Nat.ble (0 + 1) fr = true) (h2 : Nat.ble (22 + 0) lo = true) : CW X fr lo yX0_in cX0_in 3 (some .boolean) 0 0 3 := ⟨q447, q126, ⟨by decide +kernel, by decide +kernel, by decide +kernel⟩, Nat.le_of_ble_eq_true h1, Nat.le_of_ble_eq_true h2⟩

set_option maxHeartbeats 4000000 in
noncomputable def F_X0_refuse (s : St) (p0 : Int32) : Option (Int32 × St) := nam (setI s 0 0 p0) fun s1 => gd (inb (-p0) 7) <| gd (inb (-p0) 7) <| nam (setI s1 1 (-p0).toNatClampNeg ((si s1 1 (-p0).toNatClampNeg) + (1 : Int32))) fun s5 => some (p0, s5)
set_option maxHeartbeats 4000000 in
theorem c_X0_refuse {l : Launch} {E : EV} (hE : GE E) (hS : ∀ σ, eSk E σ ↔ SkC σ) {s s' : St} {r : Int32} {p0 : Int32} (h : F_X0_refuse  s p0 = some (r, s')) : CT l E yX0_refuse cX0_refuse 2 (some .int) 0 0 [vr (some 0), vi p0] s (some (vi r)) s' := by
  refine CT.start hE (by decide) rfl [(0, vr (some 0)), (1, vi p0)] rfl (fun X hX B => ?_)
  skip
  have B : FX X E cX0_refuse 2 (some .int) "RoseThrow" "refuse" (sn s) (ss s) 0 0 := B
  unfold F_X0_refuse at h
  refine r_aload_n (j := 0) B dX0_refuse_0 rfl rfl ?_
  refine r_iload_n (j := 1) B dX0_refuse_1 rfl rfl ?_
  obtain ⟨s1, e2, h⟩ := nam_e h
  refine pI0 (k := 0) B e2 rfl (fun z => by rw [((hS _).1 z).1 0 (by decide)]; rfl) rfl q356 rfl rfl (fun _ _ _ => rfl) rfl dX0_refuse_2 ?_
  refine r_aload_n (j := 0) B dX0_refuse_5 rfl rfl ?_
  refine g0 (k := 1) B (vr (some 1)) rfl (fun z => by rw [((hS _).1 z).1 0 (by decide)]; rfl) rfl q357 rfl (fun z => by rw [((hS _).1 z).2 _ (List.mem_of_getElem? (i := 0) rfl)]; rfl) dX0_refuse_6 ?_
  refine r_iload_n (j := 1) B dX0_refuse_9 rfl rfl ?_
  refine r_ineg B dX0_refuse_10 ?_
  refine r_dup2 B dX0_refuse_11 rfl rfl ?_
  obtain ⟨hg3, h⟩ := gd_e h
  refine r_iald B rfl (fun z => ((hS _).1 z).1 1 (by decide)) hg3 dX0_refuse_12 ?_
  refine r_iconst (v := 1) B dX0_refuse_13 (by decide) ?_
  refine r_iadd B dX0_refuse_14 ?_
  obtain ⟨hg4, h⟩ := gd_e h
  obtain ⟨s5, e6, h⟩ := nam_e h
  refine r_iast B e6 rfl (fun z => ((hS _).1 z).1 1 (by decide)) hg4 dX0_refuse_15 ?_
  refine r_iload_n (j := 1) B dX0_refuse_16 rfl rfl ?_
  exact r_iret B dX0_refuse_17 h
set_option maxHeartbeats 4000000 in
theorem cw_X0_refuse {X : CX} {fr lo : Nat} (h1 : Nat.ble (0 + 1) fr = true) (h2 : Nat.ble (21 + 0) lo = true) : CW X fr lo yX0_refuse cX0_refuse 2 (some .int) 0 0 1 := ⟨q451, q126, ⟨by decide +kernel, by decide +kernel, by decide +kernel⟩, Nat.le_of_ble_eq_true h1, Nat.le_of_ble_eq_true h2⟩

set_option maxHeartbeats 4000000 in
noncomputable def F_X1_rows (s : St) (p0 : Option Nat) (p1 : Option Nat) : Option (Unit × St) := drf p0 fun a1 => gd (isK s a1 100) <| drf p1 fun a4 => gd (isK s a4 100) <| drf p0 fun a7 => gd (isK s a7 100) <| gd (okC (0 : Int32) (0 : Int32) (nI (sk s a1).2) (sk s a4).2 (sk s a7).2) <| nam (cpyI s a4 (0 : Int32).toNatClampNeg a7 (0 : Int32).toNatClampNeg (nI (sk s a1).2).toNatClampNeg) fun s11 => some ((), s11)
set_option maxHeartbeats 4000000 in
theorem c_X1_rows {l : Launch} {E : EV} (hE : GE E) (h0 : ∀ σ, eSk E σ) {s s' : St} {r : Unit} {p0 : Option Nat} {p1 : Option Nat} (h : F_X1_rows  s p0 p1 = some (r, s')) : CT l E yX1_rows cX1_rows 2 none 1 60 [vr p0, vr p1] s none s' := by
  refine CT.start hE (by decide) rfl [(0, vr p0), (1, vr p1)] rfl (fun X hX B => ?_)
  skip
  have B : FX X E cX1_rows 2 none "RoseThrow$State" "rows" (sn s) (ss s) 1 60 := B
  unfold F_X1_rows at h
  refine r_aload_n (j := 1) B dX1_rows_0 rfl rfl ?_
  refine r_iconst (v := 0) B dX1_rows_1 (by decide) ?_
  refine r_aload_n (j := 0) B dX1_rows_2 rfl rfl ?_
  refine r_iconst (v := 0) B dX1_rows_3 (by decide) ?_
  refine r_aload_n (j := 0) B dX1_rows_4 rfl rfl ?_
  obtain ⟨a1, ea2, h⟩ := drf_e h
  obtain ⟨hg3, h⟩ := gd_e h
  refine r_alen 0 (by decide) B ea2 (fun _ => isK_a hg3) dX1_rows_5 ?_
  obtain ⟨a4, ea5, h⟩ := drf_e h
  obtain ⟨hg6, h⟩ := gd_e h
  obtain ⟨a7, ea8, h⟩ := drf_e h
  obtain ⟨hg9, h⟩ := gd_e h
  obtain ⟨hg10, h⟩ := gd_e h
  obtain ⟨s11, e12, h⟩ := nam_e h
  refine r_copyI B e12 ea5 ea8 (fun _ => isK_a hg6) (fun _ => isK_a hg9) hg10 q459 q461 q460 q157 (by decide) (by decide) rfl dX1_rows_6 ?_
  exact r_vret B dX1_rows_9 h
set_option maxHeartbeats 4000000 in
theorem cw_X1_rows {X : CX} {fr lo : Nat} (h1 : Nat.ble (1 + 1) fr = true) (h2 : Nat.ble (21 + 60) lo = true) : CW X fr lo yX1_rows cX1_rows 2 none 1 60 2 := ⟨q458, q127, ⟨by decide +kernel, by decide +kernel, by decide +kernel⟩, Nat.le_of_ble_eq_true h1, Nat.le_of_ble_eq_true h2⟩

set_option maxHeartbeats 4000000 in
noncomputable def F_X1_takes (s : St) (this : Nat) (p0 : Option Nat) : Option (Unit × St) := gd (isK s this 1) <| drf p0 fun a2 => gd (isK s a2 1) <| bnd (F_X1_rows s (sr s this 0) (sr s a2 0)) fun _ s6 => gd (isK s6 this 1) <| drf p0 fun a9 => gd (isK s6 a9 1) <| bnd (F_X1_rows s6 (sr s6 this 1) (sr s6 a9 1)) fun _ s13 => gd (isK s13 this 1) <| drf p0 fun a16 => gd (isK s13 a16 1) <| bnd (F_X1_rows s13 (sr s13 this 2) (sr s13 a16 2)) fun _ s20 => gd (isK s20 this 1) <| drf p0 fun a23 => gd (isK s20 a23 1) <| bnd (F_X1_rows s20 (sr s20 this 3) (sr s20 a23 3)) fun _ s27 => gd (isK s27 this 1) <| drf p0 fun a30 => gd (isK s27 a30 1) <| bnd (F_X1_rows s27 (sr s27 this 4) (sr s27 a30 4)) fun _ s34 => gd (isK s34 this 1) <| drf p0 fun a37 => gd (isK s34 a37 1) <| bnd (F_X1_rows s34 (sr s34 this 5) (sr s34 a37 5)) fun _ s41 => gd (isK s41 this 1) <| drf p0 fun a44 => gd (isK s41 a44 1) <| bnd (F_X1_rows s41 (sr s41 this 6) (sr s41 a44 6)) fun _ s48 => gd (isK s48 this 1) <| drf (sr s48 this 7) fun a51 => gd (isK s48 a51 18) <| bnd (F_J2_clear s48 a51) fun _ s55 => gd (isK s55 this 1) <| drf p0 fun a58 => gd (isK s55 a58 1) <| drf (sr s55 this 7) fun a61 => gd (isK s55 a61 18) <| bnd (F_J2_addAll s55 a61 (sr s55 a58 7)) fun r64 s65 => drf p0 fun a67 => gd (isK s65 a67 1) <| gd (isK s65 this 1) <| nam (setI s65 this 8 (si s65 a67 8)) fun s71 => drf p0 fun a73 => gd (isK s71 a73 1) <| gd (isK s71 this 1) <| nam (setI s71 this 9 (si s71 a73 9)) fun s77 => drf p0 fun a79 => gd (isK s77 a79 1) <| gd (isK s77 this 1) <| nam (setI s77 this 10 (si s77 a79 10)) fun s83 => some ((), s83)
set_option maxHeartbeats 4000000 in
theorem c_X1_takes {l : Launch} {E : EV} (hE : GE E) (h0 : ∀ σ, eSk E σ) {s s' : St} {r : Unit} {this : Nat} {p0 : Option Nat} (h : F_X1_takes  s this p0 = some (r, s')) : CT l E yX1_takes cX1_takes 2 none 5 152 [vr (some this), vr p0] s none s' := by
  refine CT.start hE (by decide) rfl [(0, vr (some this)), (1, vr p0)] rfl (fun X hX B => ?_)
  skip
  have B : FX X E cX1_takes 2 none "RoseThrow$State" "takes" (sn s) (ss s) 5 152 := B
  unfold F_X1_takes at h
  refine r_aload_n (j := 0) B dX1_takes_0 rfl rfl ?_
  obtain ⟨hg1, h⟩ := gd_e h
  refine g1 (k := 0) B (vr (sr s this 0)) rfl (fun _ => isK_e hg1) rfl q205 rfl (fun _ => rfl) dX1_takes_1 ?_
  refine r_aload_n (j := 1) B dX1_takes_4 rfl rfl ?_
  obtain ⟨a2, ea3, h⟩ := drf_e h
  obtain ⟨hg4, h⟩ := gd_e h
  refine g1 (k := 0) B (vr (sr s a2 0)) ea3 (fun _ => isK_e hg4) rfl q205 rfl (fun _ => rfl) dX1_takes_5 ?_
  obtain ⟨r5, s6, hc7, h⟩ := bnd_e h
  refine r_callS0 (As := [vr (sr s this 0), vr (sr s a2 0)]) (rest := []) B rfl EX.same (c_X1_rows B.ge h0 hc7) (cw_X1_rows rfl rfl) q456 q457 rfl dX1_takes_8 ?_
  refine r_aload_n (j := 0) B dX1_takes_11 rfl rfl ?_
  obtain ⟨hg8, h⟩ := gd_e h
  refine g1 (k := 1) B (vr (sr s6 this 1)) rfl (fun _ => isK_e hg8) rfl q207 rfl (fun _ => rfl) dX1_takes_12 ?_
  refine r_aload_n (j := 1) B dX1_takes_15 rfl rfl ?_
  obtain ⟨a9, ea10, h⟩ := drf_e h
  obtain ⟨hg11, h⟩ := gd_e h
  refine g1 (k := 1) B (vr (sr s6 a9 1)) ea10 (fun _ => isK_e hg11) rfl q207 rfl (fun _ => rfl) dX1_takes_16 ?_
  obtain ⟨r12, s13, hc14, h⟩ := bnd_e h
  refine r_callS0 (As := [vr (sr s6 this 1), vr (sr s6 a9 1)]) (rest := []) B rfl EX.same (c_X1_rows B.ge h0 hc14) (cw_X1_rows rfl rfl) q456 q457 rfl dX1_takes_19 ?_
  refine r_aload_n (j := 0) B dX1_takes_22 rfl rfl ?_
  obtain ⟨hg15, h⟩ := gd_e h
  refine g1 (k := 2) B (vr (sr s13 this 2)) rfl (fun _ => isK_e hg15) rfl q209 rfl (fun _ => rfl) dX1_takes_23 ?_
  refine r_aload_n (j := 1) B dX1_takes_26 rfl rfl ?_
  obtain ⟨a16, ea17, h⟩ := drf_e h
  obtain ⟨hg18, h⟩ := gd_e h
  refine g1 (k := 2) B (vr (sr s13 a16 2)) ea17 (fun _ => isK_e hg18) rfl q209 rfl (fun _ => rfl) dX1_takes_27 ?_
  obtain ⟨r19, s20, hc21, h⟩ := bnd_e h
  refine r_callS0 (As := [vr (sr s13 this 2), vr (sr s13 a16 2)]) (rest := []) B rfl EX.same (c_X1_rows B.ge h0 hc21) (cw_X1_rows rfl rfl) q456 q457 rfl dX1_takes_30 ?_
  refine r_aload_n (j := 0) B dX1_takes_33 rfl rfl ?_
  obtain ⟨hg22, h⟩ := gd_e h
  refine g1 (k := 3) B (vr (sr s20 this 3)) rfl (fun _ => isK_e hg22) rfl q211 rfl (fun _ => rfl) dX1_takes_34 ?_
  refine r_aload_n (j := 1) B dX1_takes_37 rfl rfl ?_
  obtain ⟨a23, ea24, h⟩ := drf_e h
  obtain ⟨hg25, h⟩ := gd_e h
  refine g1 (k := 3) B (vr (sr s20 a23 3)) ea24 (fun _ => isK_e hg25) rfl q211 rfl (fun _ => rfl) dX1_takes_38 ?_
  obtain ⟨r26, s27, hc28, h⟩ := bnd_e h
  refine r_callS0 (As := [vr (sr s20 this 3), vr (sr s20 a23 3)]) (rest := []) B rfl EX.same (c_X1_rows B.ge h0 hc28) (cw_X1_rows rfl rfl) q456 q457 rfl dX1_takes_41 ?_
  refine r_aload_n (j := 0) B dX1_takes_44 rfl rfl ?_
  obtain ⟨hg29, h⟩ := gd_e h
  refine g1 (k := 4) B (vr (sr s27 this 4)) rfl (fun _ => isK_e hg29) rfl q213 rfl (fun _ => rfl) dX1_takes_45 ?_
  refine r_aload_n (j := 1) B dX1_takes_48 rfl rfl ?_
  obtain ⟨a30, ea31, h⟩ := drf_e h
  obtain ⟨hg32, h⟩ := gd_e h
  refine g1 (k := 4) B (vr (sr s27 a30 4)) ea31 (fun _ => isK_e hg32) rfl q213 rfl (fun _ => rfl) dX1_takes_49 ?_
  obtain ⟨r33, s34, hc35, h⟩ := bnd_e h
  refine r_callS0 (As := [vr (sr s27 this 4), vr (sr s27 a30 4)]) (rest := []) B rfl EX.same (c_X1_rows B.ge h0 hc35) (cw_X1_rows rfl rfl) q456 q457 rfl dX1_takes_52 ?_
  refine r_aload_n (j := 0) B dX1_takes_55 rfl rfl ?_
  obtain ⟨hg36, h⟩ := gd_e h
  refine g1 (k := 5) B (vr (sr s34 this 5)) rfl (fun _ => isK_e hg36) rfl q215 rfl (fun _ => rfl) dX1_takes_56 ?_
  refine r_aload_n (j := 1) B dX1_takes_59 rfl rfl ?_
  obtain ⟨a37, ea38, h⟩ := drf_e h
  obtain ⟨hg39, h⟩ := gd_e h
  refine g1 (k := 5) B (vr (sr s34 a37 5)) ea38 (fun _ => isK_e hg39) rfl q215 rfl (fun _ => rfl) dX1_takes_60 ?_
  obtain ⟨r40, s41, hc42, h⟩ := bnd_e h
  refine r_callS0 (As := [vr (sr s34 this 5), vr (sr s34 a37 5)]) (rest := []) B rfl EX.same (c_X1_rows B.ge h0 hc42) (cw_X1_rows rfl rfl) q456 q457 rfl dX1_takes_63 ?_
  refine r_aload_n (j := 0) B dX1_takes_66 rfl rfl ?_
  obtain ⟨hg43, h⟩ := gd_e h
  refine g1 (k := 6) B (vr (sr s41 this 6)) rfl (fun _ => isK_e hg43) rfl q217 rfl (fun _ => rfl) dX1_takes_67 ?_
  refine r_aload_n (j := 1) B dX1_takes_70 rfl rfl ?_
  obtain ⟨a44, ea45, h⟩ := drf_e h
  obtain ⟨hg46, h⟩ := gd_e h
  refine g1 (k := 6) B (vr (sr s41 a44 6)) ea45 (fun _ => isK_e hg46) rfl q217 rfl (fun _ => rfl) dX1_takes_71 ?_
  obtain ⟨r47, s48, hc49, h⟩ := bnd_e h
  refine r_callS0 (As := [vr (sr s41 this 6), vr (sr s41 a44 6)]) (rest := []) B rfl EX.same (c_X1_rows B.ge h0 hc49) (cw_X1_rows rfl rfl) q456 q457 rfl dX1_takes_74 ?_
  refine r_aload_n (j := 0) B dX1_takes_77 rfl rfl ?_
  obtain ⟨hg50, h⟩ := gd_e h
  refine g1 (k := 7) B (vr (sr s48 this 7)) rfl (fun _ => isK_e hg50) rfl q219 rfl (fun _ => rfl) dX1_takes_78 ?_
  obtain ⟨a51, ea52, h⟩ := drf_e h
  obtain ⟨hg53, h⟩ := gd_e h
  obtain ⟨r54, s55, hc56, h⟩ := bnd_e h
  refine r_callV0 (As := []) (rest := []) B rfl ea52 EX.same (c_J2_clear B.ge h0 hc56) (cw_J2_clear rfl rfl) (fun z => RV.of 18 ((fun _ => isK_e hg53) z) rfl rfl q464) q462 q463 rfl dX1_takes_81 ?_
  refine r_aload_n (j := 0) B dX1_takes_84 rfl rfl ?_
  obtain ⟨hg57, h⟩ := gd_e h
  refine g1 (k := 7) B (vr (sr s55 this 7)) rfl (fun _ => isK_e hg57) rfl q219 rfl (fun _ => rfl) dX1_takes_85 ?_
  refine r_aload_n (j := 1) B dX1_takes_88 rfl rfl ?_
  obtain ⟨a58, ea59, h⟩ := drf_e h
  obtain ⟨hg60, h⟩ := gd_e h
  refine g1 (k := 7) B (vr (sr s55 a58 7)) ea59 (fun _ => isK_e hg60) rfl q219 rfl (fun _ => rfl) dX1_takes_89 ?_
  obtain ⟨a61, ea62, h⟩ := drf_e h
  obtain ⟨hg63, h⟩ := gd_e h
  obtain ⟨r64, s65, hc66, h⟩ := bnd_e h
  refine r_callVv (As := [vr (sr s55 a58 7)]) (rest := []) B rfl ea62 EX.same (c_J2_addAll B.ge h0 hc66) (cw_J2_addAll rfl rfl) (fun z => RV.of 18 ((fun _ => isK_e hg63) z) rfl rfl q468) q466 q467 rfl dX1_takes_92 ?_
  refine r_pop B dX1_takes_95 rfl ?_
  refine r_aload_n (j := 0) B dX1_takes_96 rfl rfl ?_
  refine r_aload_n (j := 1) B dX1_takes_97 rfl rfl ?_
  obtain ⟨a67, ea68, h⟩ := drf_e h
  obtain ⟨hg69, h⟩ := gd_e h
  refine g1 (k := 8) B (vi (si s65 a67 8)) ea68 (fun _ => isK_e hg69) rfl q221 rfl (fun _ => rfl) dX1_takes_98 ?_
  obtain ⟨hg70, h⟩ := gd_e h
  obtain ⟨s71, e72, h⟩ := nam_e h
  refine pI1 (k := 8) B e72 rfl (fun _ => isK_e hg70) rfl q221 rfl rfl (fun _ _ _ => rfl) rfl dX1_takes_101 ?_
  refine r_aload_n (j := 0) B dX1_takes_104 rfl rfl ?_
  refine r_aload_n (j := 1) B dX1_takes_105 rfl rfl ?_
  obtain ⟨a73, ea74, h⟩ := drf_e h
  obtain ⟨hg75, h⟩ := gd_e h
  refine g1 (k := 9) B (vi (si s71 a73 9)) ea74 (fun _ => isK_e hg75) rfl q223 rfl (fun _ => rfl) dX1_takes_106 ?_
  obtain ⟨hg76, h⟩ := gd_e h
  obtain ⟨s77, e78, h⟩ := nam_e h
  refine pI1 (k := 9) B e78 rfl (fun _ => isK_e hg76) rfl q223 rfl rfl (fun _ _ _ => rfl) rfl dX1_takes_109 ?_
  refine r_aload_n (j := 0) B dX1_takes_112 rfl rfl ?_
  refine r_aload_n (j := 1) B dX1_takes_113 rfl rfl ?_
  obtain ⟨a79, ea80, h⟩ := drf_e h
  obtain ⟨hg81, h⟩ := gd_e h
  refine g1 (k := 10) B (vi (si s77 a79 10)) ea80 (fun _ => isK_e hg81) rfl q225 rfl (fun _ => rfl) dX1_takes_114 ?_
  obtain ⟨hg82, h⟩ := gd_e h
  obtain ⟨s83, e84, h⟩ := nam_e h
  refine pI1 (k := 10) B e84 rfl (fun _ => isK_e hg82) rfl q225 rfl rfl (fun _ _ _ => rfl) rfl dX1_takes_117 ?_
  exact r_vret B dX1_takes_120 h
set_option maxHeartbeats 4000000 in
theorem cw_X1_takes {X : CX} {fr lo : Nat} (h1 : Nat.ble (5 + 1) fr = true) (h2 : Nat.ble (21 + 152) lo = true) : CW X fr lo yX1_takes cX1_takes 2 none 5 152 1 := ⟨q455, q127, ⟨by decide +kernel, by decide +kernel, by decide +kernel⟩, Nat.le_of_ble_eq_true h1, Nat.le_of_ble_eq_true h2⟩

set_option maxHeartbeats 4000000 in
noncomputable def F_X0_done (s : St) (p0 : Int32) : Option (Int32 × St) := nam (setI s 0 0 (0 : Int32)) fun s1 => some (p0, s1)
set_option maxHeartbeats 4000000 in
theorem c_X0_done {l : Launch} {E : EV} (hE : GE E) (hS : ∀ σ, eSk E σ ↔ SkC σ) {s s' : St} {r : Int32} {p0 : Int32} (h : F_X0_done  s p0 = some (r, s')) : CT l E yX0_done cX0_done 2 (some .int) 0 0 [vr (some 0), vi p0] s (some (vi r)) s' := by
  refine CT.start hE (by decide) rfl [(0, vr (some 0)), (1, vi p0)] rfl (fun X hX B => ?_)
  skip
  have B : FX X E cX0_done 2 (some .int) "RoseThrow" "done" (sn s) (ss s) 0 0 := B
  unfold F_X0_done at h
  refine r_aload_n (j := 0) B dX0_done_0 rfl rfl ?_
  refine r_iconst (v := 0) B dX0_done_1 (by decide) ?_
  obtain ⟨s1, e2, h⟩ := nam_e h
  refine pI0 (k := 0) B e2 rfl (fun z => by rw [((hS _).1 z).1 0 (by decide)]; rfl) rfl q356 rfl rfl (fun _ _ _ => rfl) rfl dX0_done_2 ?_
  refine r_iload_n (j := 1) B dX0_done_5 rfl rfl ?_
  exact r_iret B dX0_done_6 h
set_option maxHeartbeats 4000000 in
theorem cw_X0_done {X : CX} {fr lo : Nat} (h1 : Nat.ble (0 + 1) fr = true) (h2 : Nat.ble (21 + 0) lo = true) : CW X fr lo yX0_done cX0_done 2 (some .int) 0 0 1 := ⟨q536, q126, ⟨by decide +kernel, by decide +kernel, by decide +kernel⟩, Nat.le_of_ble_eq_true h1, Nat.le_of_ble_eq_true h2⟩

set_option maxHeartbeats 4000000 in
noncomputable def F_X0_image_37 (s : St) (x1 : Int32) : Option (Int32 × St) := gd (inb x1 2) <| drf (sr s 12 x1.toNatClampNeg) fun a2 => gd (isK s a2 1) <| bnd (F_X1_takes s a2 (some 2)) fun _ s6 => gp (SkC s6) <| bnd (F_X0_done s6 (0 : Int32)) fun r9 s10 => some (r9, s10)
set_option maxHeartbeats 4000000 in
theorem w_X0_image_37 {X : CX} {E : EV} {a0 s' : St} {r : Int32} (B : FX X E cX0_image 2 (some .int) "RoseThrow" "image" (sn a0) (ss a0) 6 173) (hS : ∀ σ, eSk E σ ↔ SkC σ) (s : St) (x1 : Int32) (h : F_X0_image_37   s x1 = some (r, s')) : J X E (sn a0) (ss a0) 2 (QR X E a0 (some (vi r)) s') s 37 [(0, vr (some 0)), (1, vi x1)] [] := by
  unfold F_X0_image_37 at h
  refine r_aload_n (j := 0) B dX0_image_37 rfl rfl ?_
  refine g0 (k := 3) B (vr (some 12)) rfl (fun z => by rw [((hS _).1 z).1 0 (by decide)]; rfl) rfl q359 rfl (fun z => by rw [((hS _).1 z).2 _ (List.mem_of_getElem? (i := 2) rfl)]; rfl) dX0_image_38 ?_
  refine r_iload_n (j := 1) B dX0_image_41 rfl rfl ?_
  obtain ⟨hg1, h⟩ := gd_e h
  refine r_aald 5 "RoseThrow$State" ⟨by decide, by decide, rfl⟩ B rfl (fun z => ((hS _).1 z).1 12 (by decide)) hg1 dX0_image_42 ?_
  refine r_aload_n (j := 0) B dX0_image_43 rfl rfl ?_
  refine g0 (k := 2) B (vr (some 2)) rfl (fun z => by rw [((hS _).1 z).1 0 (by decide)]; rfl) rfl q358 rfl (fun z => by rw [((hS _).1 z).2 _ (List.mem_of_getElem? (i := 1) rfl)]; rfl) dX0_image_44 ?_
  obtain ⟨a2, ea3, h⟩ := drf_e h
  obtain ⟨hg4, h⟩ := gd_e h
  obtain ⟨r5, s6, hc7, h⟩ := bnd_e h
  obtain ⟨hg8, h⟩ := gp_e h
  refine r_callV0 (As := [vr (some 2)]) (rest := []) B rfl ea3 (EX.noSk (fun _ => (hS _).2 hg8)) (c_X1_takes B.ge.noSk (fun _ => trivial) hc7) (cw_X1_takes rfl rfl) (fun z => RV.of 1 ((fun _ => isK_e hg4) z) rfl rfl q454) q452 q453 rfl dX0_image_47 ?_
  refine r_aload_n (j := 0) B dX0_image_50 rfl rfl ?_
  refine r_iconst (v := 0) B dX0_image_51 (by decide) ?_
  obtain ⟨r9, s10, hc11, h⟩ := bnd_e h
  refine r_callVv (As := [vi (0 : Int32)]) (rest := []) B rfl rfl EX.same (c_X0_done B.ge hS hc11) (cw_X0_done rfl rfl) (fun z => RV.of 0 (by rw [((hS _).1 z).1 0 (by decide)]; rfl) rfl rfl qs3) q533 q535 rfl dX0_image_52 ?_
  exact r_iret B dX0_image_55 h
set_option maxHeartbeats 4000000 in
noncomputable def F_X0_image (s : St) (p0 : Int32) : Option (Int32 × St) := bnd (F_X0_in s p0 (0 : Int32) (1 : Int32)) fun r1 s2 => if r1 = 0 then (bnd (F_X0_refuse s2 (-1 : Int32)) fun r20 s21 => some (r20, s21)) else (gd (inb p0 2) <| if (sr s2 12 p0.toNatClampNeg) = none then (gd (okN s2 11) <| nam (newO s2 (1, 0) 11) fun s8 => gp (SkC s8) <| bnd (F_X1_init s8 (sn s2)) fun _ s12 => gp (SkC s12) <| gd (inb p0 2) <| gd (isK s12 (sn s2) 1) <| nam (setR s12 12 p0.toNatClampNeg (some (sn s2))) fun s16 => gp (SkC s16) <| F_X0_image_37 s16 p0) else (F_X0_image_37 s2 p0))
set_option maxHeartbeats 4000000 in
theorem c_X0_image {l : Launch} {E : EV} (hE : GE E) (hS : ∀ σ, eSk E σ ↔ SkC σ) {s s' : St} {r : Int32} {p0 : Int32} (h : F_X0_image  s p0 = some (r, s')) : CT l E yX0_image cX0_image 2 (some .int) 6 173 [vr (some 0), vi p0] s (some (vi r)) s' := by
  refine CT.start hE (by decide) rfl [(0, vr (some 0)), (1, vi p0)] rfl (fun X hX B => ?_)
  skip
  have B : FX X E cX0_image 2 (some .int) "RoseThrow" "image" (sn s) (ss s) 6 173 := B
  unfold F_X0_image at h
  refine r_iload_n (j := 1) B dX0_image_0 rfl rfl ?_
  refine r_iconst (v := 0) B dX0_image_1 (by decide) ?_
  refine r_iconst (v := 1) B dX0_image_2 (by decide) ?_
  obtain ⟨r1, s2, hc3, h⟩ := bnd_e h
  refine r_callSv (As := [vi p0, vi (0 : Int32), vi (1 : Int32)]) (rest := []) B rfl EX.same (c_X0_in B.ge hS hc3) (cw_X0_in rfl rfl) q445 q446 rfl dX0_image_3 ?_
  refine r_if_ne (tgt := 15) B dX0_image_6 (by decide) (fun cn4 => ?_) (fun cn4 => ?_)
  · have h := of cn4 h
    refine r_aload_n (j := 0) B dX0_image_15 rfl rfl ?_
    refine g0 (k := 3) B (vr (some 12)) rfl (fun z => by rw [((hS _).1 z).1 0 (by decide)]; rfl) rfl q359 rfl (fun z => by rw [((hS _).1 z).2 _ (List.mem_of_getElem? (i := 2) rfl)]; rfl) dX0_image_16 ?_
    refine r_iload_n (j := 1) B dX0_image_19 rfl rfl ?_
    obtain ⟨hg5, h⟩ := gd_e h
    refine r_aald 5 "RoseThrow$State" ⟨by decide, by decide, rfl⟩ B rfl (fun z => ((hS _).1 z).1 12 (by decide)) hg5 dX0_image_20 ?_
    refine r_ifnonnull (tgt := 37) B dX0_image_21 (by decide) (fun cn6 => ?_) (fun cn6 => ?_)
    · have h := of cn6 h
      exact w_X0_image_37 B hS s2 p0 h
    · have h := ot cn6 h
      refine r_aload_n (j := 0) B dX0_image_24 rfl rfl ?_
      refine g0 (k := 3) B (vr (some 12)) rfl (fun z => by rw [((hS _).1 z).1 0 (by decide)]; rfl) rfl q359 rfl (fun z => by rw [((hS _).1 z).2 _ (List.mem_of_getElem? (i := 2) rfl)]; rfl) dX0_image_25 ?_
      refine r_iload_n (j := 1) B dX0_image_28 rfl rfl ?_
      obtain ⟨hg7, h⟩ := gd_e h
      obtain ⟨s8, e9, h⟩ := nam_e h
      obtain ⟨hg10, h⟩ := gp_e h
      refine r_new B e9 hg7 (c := 1) rfl (by decide) rfl in_X1 tyX1_ok rfl q170 q171 q127 (fun _ => (hS _).2 hg10) dX0_image_29 ?_
      refine r_dup B dX0_image_32 rfl ?_
      obtain ⟨r11, s12, hc13, h⟩ := bnd_e h
      obtain ⟨hg14, h⟩ := gp_e h
      refine r_callIN (As := []) (rest := [vr (some (sn s2)), vi p0, vr (some 12)]) B rfl rfl (EX.noSk (fun _ => (hS _).2 hg14)) (c_X1_init B.ge.noSk (fun _ => trivial) hc13) (cw_X1_init rfl rfl) rfl (lw_n q172 rfl) q173 rfl dX0_image_33 ?_
      obtain ⟨hg15, h⟩ := gd_e h
      obtain ⟨hg18, h⟩ := gd_e h
      obtain ⟨s16, e17, h⟩ := nam_e h
      obtain ⟨hg19, h⟩ := gp_e h
      refine r_aastQ 5 "RoseThrow$State" ⟨by decide, by decide, rfl⟩ B e17 rfl (fun z => ((hS _).1 z).1 12 (by decide)) hg15 rfl (isK_e hg18) (by decide) rfl rfl (fun _ => (hS _).2 hg19) dX0_image_36 ?_
      exact w_X0_image_37 B hS s16 p0 h
  · have h := ot cn4 h
    refine r_aload_n (j := 0) B dX0_image_9 rfl rfl ?_
    refine r_iconst (v := -1) B dX0_image_10 (by decide) ?_
    obtain ⟨r20, s21, hc22, h⟩ := bnd_e h
    refine r_callVv (As := [vi (-1 : Int32)]) (rest := []) B rfl rfl EX.same (c_X0_refuse B.ge hS hc22) (cw_X0_refuse rfl rfl) (fun z => RV.of 0 (by rw [((hS _).1 z).1 0 (by decide)]; rfl) rfl rfl qs1) q448 q450 rfl dX0_image_11 ?_
    exact r_iret B dX0_image_14 h
set_option maxHeartbeats 4000000 in
theorem cw_X0_image {X : CX} {fr lo : Nat} (h1 : Nat.ble (6 + 1) fr = true) (h2 : Nat.ble (21 + 173) lo = true) : CW X fr lo yX0_image cX0_image 2 (some .int) 6 173 1 := ⟨q444, q126, ⟨by decide +kernel, by decide +kernel, by decide +kernel⟩, Nat.le_of_ble_eq_true h1, Nat.le_of_ble_eq_true h2⟩

set_option maxHeartbeats 4000000 in
noncomputable def F_X0_settled (s : St) (p0 : Int32) : Option (Int32 × St) := nam (setI s 0 15 (0 : Int32)) fun s1 => bnd (F_X0_done s1 p0) fun r3 s4 => some (r3, s4)
set_option maxHeartbeats 4000000 in
theorem c_X0_settled {l : Launch} {E : EV} (hE : GE E) (hS : ∀ σ, eSk E σ ↔ SkC σ) {s s' : St} {r : Int32} {p0 : Int32} (h : F_X0_settled  s p0 = some (r, s')) : CT l E yX0_settled cX0_settled 2 (some .int) 1 21 [vr (some 0), vi p0] s (some (vi r)) s' := by
  refine CT.start hE (by decide) rfl [(0, vr (some 0)), (1, vi p0)] rfl (fun X hX B => ?_)
  skip
  have B : FX X E cX0_settled 2 (some .int) "RoseThrow" "settled" (sn s) (ss s) 1 21 := B
  unfold F_X0_settled at h
  refine r_aload_n (j := 0) B dX0_settled_0 rfl rfl ?_
  refine r_iconst (v := 0) B dX0_settled_1 (by decide) ?_
  obtain ⟨s1, e2, h⟩ := nam_e h
  refine pI0 (k := 15) B e2 rfl (fun z => by rw [((hS _).1 z).1 0 (by decide)]; rfl) rfl q371 rfl rfl (fun _ _ _ => rfl) rfl dX0_settled_2 ?_
  refine r_aload_n (j := 0) B dX0_settled_5 rfl rfl ?_
  refine r_iload_n (j := 1) B dX0_settled_6 rfl rfl ?_
  obtain ⟨r3, s4, hc5, h⟩ := bnd_e h
  refine r_callVv (As := [vi p0]) (rest := []) B rfl rfl EX.same (c_X0_done B.ge hS hc5) (cw_X0_done rfl rfl) (fun z => RV.of 0 (by rw [((hS _).1 z).1 0 (by decide)]; rfl) rfl rfl qs3) q533 q535 rfl dX0_settled_7 ?_
  exact r_iret B dX0_settled_10 h
set_option maxHeartbeats 4000000 in
theorem cw_X0_settled {X : CX} {fr lo : Nat} (h1 : Nat.ble (1 + 1) fr = true) (h2 : Nat.ble (21 + 21) lo = true) : CW X fr lo yX0_settled cX0_settled 2 (some .int) 1 21 1 := ⟨q544, q126, ⟨by decide +kernel, by decide +kernel, by decide +kernel⟩, Nat.le_of_ble_eq_true h1, Nat.le_of_ble_eq_true h2⟩

set_option maxHeartbeats 4000000 in
noncomputable def F_X0_back (s : St) (p0 : Int32) : Option (Int32 × St) := bnd (F_X0_in s p0 (0 : Int32) (1 : Int32)) fun r1 s2 => if r1 = 0 then (bnd (F_X0_refuse s2 (-1 : Int32)) fun r18 s19 => some (r18, s19)) else (gd (inb p0 2) <| if (sr s2 12 p0.toNatClampNeg) = none then (bnd (F_X0_refuse s2 (-2 : Int32)) fun r15 s16 => some (r15, s16)) else (gd (inb p0 2) <| bnd (F_X1_takes s2 2 (sr s2 12 p0.toNatClampNeg)) fun _ s9 => gp (SkC s9) <| bnd (F_X0_settled s9 (0 : Int32)) fun r12 s13 => some (r12, s13)))
set_option maxHeartbeats 4000000 in
theorem c_X0_back {l : Launch} {E : EV} (hE : GE E) (hS : ∀ σ, eSk E σ ↔ SkC σ) {s s' : St} {r : Int32} {p0 : Int32} (h : F_X0_back  s p0 = some (r, s')) : CT l E yX0_back cX0_back 2 (some .int) 6 173 [vr (some 0), vi p0] s (some (vi r)) s' := by
  refine CT.start hE (by decide) rfl [(0, vr (some 0)), (1, vi p0)] rfl (fun X hX B => ?_)
  skip
  have B : FX X E cX0_back 2 (some .int) "RoseThrow" "back" (sn s) (ss s) 6 173 := B
  unfold F_X0_back at h
  refine r_iload_n (j := 1) B dX0_back_0 rfl rfl ?_
  refine r_iconst (v := 0) B dX0_back_1 (by decide) ?_
  refine r_iconst (v := 1) B dX0_back_2 (by decide) ?_
  obtain ⟨r1, s2, hc3, h⟩ := bnd_e h
  refine r_callSv (As := [vi p0, vi (0 : Int32), vi (1 : Int32)]) (rest := []) B rfl EX.same (c_X0_in B.ge hS hc3) (cw_X0_in rfl rfl) q445 q446 rfl dX0_back_3 ?_
  refine r_if_ne (tgt := 15) B dX0_back_6 (by decide) (fun cn4 => ?_) (fun cn4 => ?_)
  · have h := of cn4 h
    refine r_aload_n (j := 0) B dX0_back_15 rfl rfl ?_
    refine g0 (k := 3) B (vr (some 12)) rfl (fun z => by rw [((hS _).1 z).1 0 (by decide)]; rfl) rfl q359 rfl (fun z => by rw [((hS _).1 z).2 _ (List.mem_of_getElem? (i := 2) rfl)]; rfl) dX0_back_16 ?_
    refine r_iload_n (j := 1) B dX0_back_19 rfl rfl ?_
    obtain ⟨hg5, h⟩ := gd_e h
    refine r_aald 5 "RoseThrow$State" ⟨by decide, by decide, rfl⟩ B rfl (fun z => ((hS _).1 z).1 12 (by decide)) hg5 dX0_back_20 ?_
    refine r_ifnonnull (tgt := 31) B dX0_back_21 (by decide) (fun cn6 => ?_) (fun cn6 => ?_)
    · have h := of cn6 h
      refine r_aload_n (j := 0) B dX0_back_31 rfl rfl ?_
      refine g0 (k := 2) B (vr (some 2)) rfl (fun z => by rw [((hS _).1 z).1 0 (by decide)]; rfl) rfl q358 rfl (fun z => by rw [((hS _).1 z).2 _ (List.mem_of_getElem? (i := 1) rfl)]; rfl) dX0_back_32 ?_
      refine r_aload_n (j := 0) B dX0_back_35 rfl rfl ?_
      refine g0 (k := 3) B (vr (some 12)) rfl (fun z => by rw [((hS _).1 z).1 0 (by decide)]; rfl) rfl q359 rfl (fun z => by rw [((hS _).1 z).2 _ (List.mem_of_getElem? (i := 2) rfl)]; rfl) dX0_back_36 ?_
      refine r_iload_n (j := 1) B dX0_back_39 rfl rfl ?_
      obtain ⟨hg7, h⟩ := gd_e h
      refine r_aald 5 "RoseThrow$State" ⟨by decide, by decide, rfl⟩ B rfl (fun z => ((hS _).1 z).1 12 (by decide)) hg7 dX0_back_40 ?_
      obtain ⟨r8, s9, hc10, h⟩ := bnd_e h
      obtain ⟨hg11, h⟩ := gp_e h
      refine r_callV0 (As := [vr (sr s2 12 p0.toNatClampNeg)]) (rest := []) B rfl rfl (EX.noSk (fun _ => (hS _).2 hg11)) (c_X1_takes B.ge.noSk (fun _ => trivial) hc10) (cw_X1_takes rfl rfl) (fun z => RV.of 1 ((fun z => by rw [((hS _).1 z).1 2 (by decide)]; rfl) z) rfl rfl q454) q452 q453 rfl dX0_back_41 ?_
      refine r_aload_n (j := 0) B dX0_back_44 rfl rfl ?_
      refine r_iconst (v := 0) B dX0_back_45 (by decide) ?_
      obtain ⟨r12, s13, hc14, h⟩ := bnd_e h
      refine r_callVv (As := [vi (0 : Int32)]) (rest := []) B rfl rfl EX.same (c_X0_settled B.ge hS hc14) (cw_X0_settled rfl rfl) (fun z => RV.of 0 (by rw [((hS _).1 z).1 0 (by decide)]; rfl) rfl rfl qs4) q541 q543 rfl dX0_back_46 ?_
      exact r_iret B dX0_back_49 h
    · have h := ot cn6 h
      refine r_aload_n (j := 0) B dX0_back_24 rfl rfl ?_
      refine r_bipush (v := -2) B dX0_back_25 (by decide) ?_
      obtain ⟨r15, s16, hc17, h⟩ := bnd_e h
      refine r_callVv (As := [vi (-2 : Int32)]) (rest := []) B rfl rfl EX.same (c_X0_refuse B.ge hS hc17) (cw_X0_refuse rfl rfl) (fun z => RV.of 0 (by rw [((hS _).1 z).1 0 (by decide)]; rfl) rfl rfl qs1) q448 q450 rfl dX0_back_27 ?_
      exact r_iret B dX0_back_30 h
  · have h := ot cn4 h
    refine r_aload_n (j := 0) B dX0_back_9 rfl rfl ?_
    refine r_iconst (v := -1) B dX0_back_10 (by decide) ?_
    obtain ⟨r18, s19, hc20, h⟩ := bnd_e h
    refine r_callVv (As := [vi (-1 : Int32)]) (rest := []) B rfl rfl EX.same (c_X0_refuse B.ge hS hc20) (cw_X0_refuse rfl rfl) (fun z => RV.of 0 (by rw [((hS _).1 z).1 0 (by decide)]; rfl) rfl rfl qs1) q448 q450 rfl dX0_back_11 ?_
    exact r_iret B dX0_back_14 h
set_option maxHeartbeats 4000000 in
theorem cw_X0_back {X : CX} {fr lo : Nat} (h1 : Nat.ble (6 + 1) fr = true) (h2 : Nat.ble (21 + 173) lo = true) : CW X fr lo yX0_back cX0_back 2 (some .int) 6 173 1 := ⟨q540, q126, ⟨by decide +kernel, by decide +kernel, by decide +kernel⟩, Nat.le_of_ble_eq_true h1, Nat.le_of_ble_eq_true h2⟩

set_option maxHeartbeats 4000000 in
noncomputable def F_X0_isCell (s : St) (p0 : Int32) : Option (Int32 × St) := bnd (F_X0_in s p0 (0 : Int32) (35 : Int32)) fun r1 s2 => gd (fits .boolean (.int r1)) <| some (r1, s2)
set_option maxHeartbeats 4000000 in
theorem c_X0_isCell {l : Launch} {E : EV} (hE : GE E) (hS : ∀ σ, eSk E σ ↔ SkC σ) {s s' : St} {r : Int32} {p0 : Int32} (h : F_X0_isCell  s p0 = some (r, s')) : CT l E yX0_isCell cX0_isCell 1 (some .boolean) 1 22 [vi p0] s (some (vi r)) s' := by
  refine CT.start hE (by decide) rfl [(0, vi p0)] rfl (fun X hX B => ?_)
  skip
  have B : FX X E cX0_isCell 1 (some .boolean) "RoseThrow" "isCell" (sn s) (ss s) 1 22 := B
  unfold F_X0_isCell at h
  refine r_iload_n (j := 0) B dX0_isCell_0 rfl rfl ?_
  refine r_iconst (v := 0) B dX0_isCell_1 (by decide) ?_
  refine r_bipush (v := 35) B dX0_isCell_2 (by decide) ?_
  obtain ⟨r1, s2, hc3, h⟩ := bnd_e h
  refine r_callSv (As := [vi p0, vi (0 : Int32), vi (35 : Int32)]) (rest := []) B rfl EX.same (c_X0_in B.ge hS hc3) (cw_X0_in rfl rfl) q445 q446 rfl dX0_isCell_4 ?_
  obtain ⟨hg4, h⟩ := gd_e h
  exact r_zret B dX0_isCell_7 hg4 h
set_option maxHeartbeats 4000000 in
theorem cw_X0_isCell {X : CX} {fr lo : Nat} (h1 : Nat.ble (1 + 1) fr = true) (h2 : Nat.ble (20 + 22) lo = true) : CW X fr lo yX0_isCell cX0_isCell 1 (some .boolean) 1 22 1 := ⟨q555, q126, ⟨by decide +kernel, by decide +kernel, by decide +kernel⟩, Nat.le_of_ble_eq_true h1, Nat.le_of_ble_eq_true h2⟩

set_option maxHeartbeats 4000000 in
noncomputable def F_X0_isPut (s : St) (p0 : Int32) (p1 : Int32) : Option (Int32 × St) := if p0 = 0 then (bnd (F_X0_in s p1 (0 : Int32) (3 : Int32)) fun r12 s13 => gd (fits .boolean (.int r12)) <| some (r12, s13)) else (if p0 = (1 : Int32) then (bnd (F_X0_in s p1 (-9 : Int32) (9 : Int32)) fun r8 s9 => gd (fits .boolean (.int r8)) <| some (r8, s9)) else (if p0 = (2 : Int32) then (bnd (F_X0_in s p1 (1 : Int32) (9 : Int32)) fun r4 s5 => if r4 = 0 then (some ((0 : Int32), s5)) else (some ((1 : Int32), s5))) else (some ((0 : Int32), s))))
set_option maxHeartbeats 4000000 in
theorem c_X0_isPut {l : Launch} {E : EV} (hE : GE E) (hS : ∀ σ, eSk E σ ↔ SkC σ) {s s' : St} {r : Int32} {p0 : Int32} {p1 : Int32} (h : F_X0_isPut  s p0 p1 = some (r, s')) : CT l E yX0_isPut cX0_isPut 2 (some .boolean) 1 22 [vi p0, vi p1] s (some (vi r)) s' := by
  refine CT.start hE (by decide) rfl [(0, vi p0), (1, vi p1)] rfl (fun X hX B => ?_)
  skip
  have B : FX X E cX0_isPut 2 (some .boolean) "RoseThrow" "isPut" (sn s) (ss s) 1 22 := B
  unfold F_X0_isPut at h
  refine r_iload_n (j := 0) B dX0_isPut_0 rfl rfl ?_
  refine r_if_ne (tgt := 13) B dX0_isPut_1 (by decide) (fun cn1 => ?_) (fun cn1 => ?_)
  · have h := of cn1 h
    refine r_iload_n (j := 0) B dX0_isPut_13 rfl rfl ?_
    refine r_iconst (v := 1) B dX0_isPut_14 (by decide) ?_
    refine r_ic_ne (tgt := 29) B dX0_isPut_15 (by decide) (fun cn2 => ?_) (fun cn2 => ?_)
    · have h := of cn2 h
      refine r_iload_n (j := 0) B dX0_isPut_29 rfl rfl ?_
      refine r_iconst (v := 2) B dX0_isPut_30 (by decide) ?_
      refine r_ic_ne (tgt := 48) B dX0_isPut_31 (by decide) (fun cn3 => ?_) (fun cn3 => ?_)
      · have h := of cn3 h
        refine r_iconst (v := 0) B dX0_isPut_48 (by decide) ?_
        exact r_zret B dX0_isPut_49 (by decide) h
      · have h := ot cn3 h
        refine r_iload_n (j := 1) B dX0_isPut_34 rfl rfl ?_
        refine r_iconst (v := 1) B dX0_isPut_35 (by decide) ?_
        refine r_bipush (v := 9) B dX0_isPut_36 (by decide) ?_
        obtain ⟨r4, s5, hc6, h⟩ := bnd_e h
        refine r_callSv (As := [vi p1, vi (1 : Int32), vi (9 : Int32)]) (rest := []) B rfl EX.same (c_X0_in B.ge hS hc6) (cw_X0_in rfl rfl) q445 q446 rfl dX0_isPut_38 ?_
        refine r_if_eq (tgt := 48) B dX0_isPut_41 (by decide) (fun cn7 => ?_) (fun cn7 => ?_)
        · have h := ot cn7 h
          refine r_iconst (v := 0) B dX0_isPut_48 (by decide) ?_
          exact r_zret B dX0_isPut_49 (by decide) h
        · have h := of cn7 h
          refine r_iconst (v := 1) B dX0_isPut_44 (by decide) ?_
          refine r_goto (tgt := 49) B dX0_isPut_45 (by decide) ?_
          exact r_zret B dX0_isPut_49 (by decide) h
    · have h := ot cn2 h
      refine r_iload_n (j := 1) B dX0_isPut_18 rfl rfl ?_
      refine r_bipush (v := -9) B dX0_isPut_19 (by decide) ?_
      refine r_bipush (v := 9) B dX0_isPut_21 (by decide) ?_
      obtain ⟨r8, s9, hc10, h⟩ := bnd_e h
      refine r_callSv (As := [vi p1, vi (-9 : Int32), vi (9 : Int32)]) (rest := []) B rfl EX.same (c_X0_in B.ge hS hc10) (cw_X0_in rfl rfl) q445 q446 rfl dX0_isPut_23 ?_
      refine r_goto (tgt := 49) B dX0_isPut_26 (by decide) ?_
      obtain ⟨hg11, h⟩ := gd_e h
      exact r_zret B dX0_isPut_49 hg11 h
  · have h := ot cn1 h
    refine r_iload_n (j := 1) B dX0_isPut_4 rfl rfl ?_
    refine r_iconst (v := 0) B dX0_isPut_5 (by decide) ?_
    refine r_iconst (v := 3) B dX0_isPut_6 (by decide) ?_
    obtain ⟨r12, s13, hc14, h⟩ := bnd_e h
    refine r_callSv (As := [vi p1, vi (0 : Int32), vi (3 : Int32)]) (rest := []) B rfl EX.same (c_X0_in B.ge hS hc14) (cw_X0_in rfl rfl) q445 q446 rfl dX0_isPut_7 ?_
    refine r_goto (tgt := 49) B dX0_isPut_10 (by decide) ?_
    obtain ⟨hg15, h⟩ := gd_e h
    exact r_zret B dX0_isPut_49 hg15 h
set_option maxHeartbeats 4000000 in
theorem cw_X0_isPut {X : CX} {fr lo : Nat} (h1 : Nat.ble (1 + 1) fr = true) (h2 : Nat.ble (21 + 22) lo = true) : CW X fr lo yX0_isPut cX0_isPut 2 (some .boolean) 1 22 2 := ⟨q558, q126, ⟨by decide +kernel, by decide +kernel, by decide +kernel⟩, Nat.le_of_ble_eq_true h1, Nat.le_of_ble_eq_true h2⟩

set_option maxHeartbeats 4000000 in
noncomputable def F_X0_whoIn_2 : Nat → St → Option Nat → Int32 → Int32 → Option (Int32 × St)
  | 0 => fun _ _ _ _ => none
  | n + 1 => fun s x1 x2 x3 => if (si s 2 8) ≤ x3 then (some ((-1 : Int32), s)) else (drf x1 fun a2 => gd (isK s a2 100) <| gd (inb x3 (sk s a2).2) <| if (si s a2 x3.toNatClampNeg) = x2 then (some (x3, s)) else (F_X0_whoIn_2  n s x1 x2 (x3 + (1))))
set_option maxHeartbeats 4000000 in
theorem w_X0_whoIn_2 {X : CX} {E : EV} {a0 s' : St} {r : Int32} (B : FX X E cX0_whoIn 4 (some .int) "RoseThrow" "whoIn" (sn a0) (ss a0) 0 0) (hS : ∀ σ, eSk E σ ↔ SkC σ) : ∀ (n : Nat) (s : St) (x1 : Option Nat) (x2 : Int32) (x3 : Int32), F_X0_whoIn_2   n s x1 x2 x3 = some (r, s') → J X E (sn a0) (ss a0) 4 (QR X E a0 (some (vi r)) s') s 2 [(0, vr (some 0)), (1, vr x1), (2, vi x2), (3, vi x3)] [] := by
  intro n
  induction n with
  | zero => intro s x1 x2 x3 h; exact absurd (show (none : Option (Int32 × St)) = _ from h) (by simp)
  | succ n ih =>
    intro s x1 x2 x3 h
    rw [F_X0_whoIn_2] at h
    refine r_iload_n (j := 3) B dX0_whoIn_2 rfl rfl ?_
    refine r_aload_n (j := 0) B dX0_whoIn_3 rfl rfl ?_
    refine g0 (k := 2) B (vr (some 2)) rfl (fun z => by rw [((hS _).1 z).1 0 (by decide)]; rfl) rfl q358 rfl (fun z => by rw [((hS _).1 z).2 _ (List.mem_of_getElem? (i := 1) rfl)]; rfl) dX0_whoIn_4 ?_
    refine g1N (k := 8) B (vi (si s 2 8)) rfl (fun z => by rw [((hS _).1 z).1 2 (by decide)]; rfl) rfl (lw_n q222 rfl) rfl (fun _ => rfl) dX0_whoIn_7 ?_
    refine r_ic_ge (tgt := 28) B dX0_whoIn_10 (by decide) (fun cn1 => ?_) (fun cn1 => ?_)
    · have h := ot cn1 h
      refine r_iconst (v := -1) B dX0_whoIn_28 (by decide) ?_
      exact r_iret B dX0_whoIn_29 h
    · have h := of cn1 h
      refine r_aload_n (j := 1) B dX0_whoIn_13 rfl rfl ?_
      refine r_iload_n (j := 3) B dX0_whoIn_14 rfl rfl ?_
      obtain ⟨a2, ea3, h⟩ := drf_e h
      obtain ⟨hg4, h⟩ := gd_e h
      obtain ⟨hg5, h⟩ := gd_e h
      refine r_iald B ea3 (fun _ => isK_a hg4) hg5 dX0_whoIn_15 ?_
      refine r_iload_n (j := 2) B dX0_whoIn_16 rfl rfl ?_
      refine r_ic_ne (tgt := 22) B dX0_whoIn_17 (by decide) (fun cn6 => ?_) (fun cn6 => ?_)
      · have h := of cn6 h
        refine r_iinc (j := 3) (v := (x3 + (1))) (L' := [(0, vr (some 0)), (1, vr x1), (2, vi x2), (3, vi (x3 + (1)))]) B dX0_whoIn_22 rfl rfl (by decide) rfl rfl rfl ?_
        refine r_goto (tgt := 2) B dX0_whoIn_25 (by decide) ?_
        exact ih s x1 x2 (x3 + (1)) h
      · have h := ot cn6 h
        refine r_iload_n (j := 3) B dX0_whoIn_20 rfl rfl ?_
        exact r_iret B dX0_whoIn_21 h
set_option maxHeartbeats 4000000 in
noncomputable def F_X0_whoIn (s : St) (p0 : Option Nat) (p1 : Int32) : Option (Int32 × St) := F_X0_whoIn_2 FU s p0 p1 (0 : Int32)
set_option maxHeartbeats 4000000 in
theorem c_X0_whoIn {l : Launch} {E : EV} (hE : GE E) (hS : ∀ σ, eSk E σ ↔ SkC σ) {s s' : St} {r : Int32} {p0 : Option Nat} {p1 : Int32} (h : F_X0_whoIn  s p0 p1 = some (r, s')) : CT l E yX0_whoIn cX0_whoIn 4 (some .int) 0 0 [vr (some 0), vr p0, vi p1] s (some (vi r)) s' := by
  refine CT.start hE (by decide) rfl [(0, vr (some 0)), (1, vr p0), (2, vi p1)] rfl (fun X hX B => ?_)
  skip
  have B : FX X E cX0_whoIn 4 (some .int) "RoseThrow" "whoIn" (sn s) (ss s) 0 0 := B
  unfold F_X0_whoIn at h
  refine r_iconst (v := 0) B dX0_whoIn_0 (by decide) ?_
  refine r_istore_n (L' := [(0, vr (some 0)), (1, vr p0), (2, vi p1), (3, vi (0 : Int32))]) B dX0_whoIn_1 rfl (by decide) rfl rfl rfl ?_
  exact w_X0_whoIn_2 B hS FU s p0 p1 (0 : Int32) h
set_option maxHeartbeats 4000000 in
theorem cw_X0_whoIn {X : CX} {fr lo : Nat} (h1 : Nat.ble (0 + 1) fr = true) (h2 : Nat.ble (23 + 0) lo = true) : CW X fr lo yX0_whoIn cX0_whoIn 4 (some .int) 0 0 2 := ⟨q562, q126, ⟨by decide +kernel, by decide +kernel, by decide +kernel⟩, Nat.le_of_ble_eq_true h1, Nat.le_of_ble_eq_true h2⟩

set_option maxHeartbeats 4000000 in
noncomputable def F_X0_term (s : St) (p0 : Int32) : Option (Int32 × St) := gd (inb p0 9) <| some ((si s 8 p0.toNatClampNeg), s)
set_option maxHeartbeats 4000000 in
theorem c_X0_term {l : Launch} {E : EV} (hE : GE E) (hS : ∀ σ, eSk E σ ↔ SkC σ) {s s' : St} {r : Int32} {p0 : Int32} (h : F_X0_term  s p0 = some (r, s')) : CT l E yX0_term cX0_term 2 (some .int) 0 0 [vr (some 0), vi p0] s (some (vi r)) s' := by
  refine CT.start hE (by decide) rfl [(0, vr (some 0)), (1, vi p0)] rfl (fun X hX B => ?_)
  skip
  have B : FX X E cX0_term 2 (some .int) "RoseThrow" "term" (sn s) (ss s) 0 0 := B
  unfold F_X0_term at h
  refine r_aload_n (j := 0) B dX0_term_0 rfl rfl ?_
  refine g0 (k := 2) B (vr (some 2)) rfl (fun z => by rw [((hS _).1 z).1 0 (by decide)]; rfl) rfl q358 rfl (fun z => by rw [((hS _).1 z).2 _ (List.mem_of_getElem? (i := 1) rfl)]; rfl) dX0_term_1 ?_
  refine g1N (k := 5) B (vr (some 8)) rfl (fun z => by rw [((hS _).1 z).1 2 (by decide)]; rfl) rfl (lw_n q216 rfl) rfl (fun z => by rw [((hS _).1 z).2 _ (List.mem_of_getElem? (i := 22) rfl)]; rfl) dX0_term_4 ?_
  refine r_iload_n (j := 1) B dX0_term_7 rfl rfl ?_
  obtain ⟨hg1, h⟩ := gd_e h
  refine r_iald B rfl (fun z => ((hS _).1 z).1 8 (by decide)) hg1 dX0_term_8 ?_
  exact r_iret B dX0_term_9 h
set_option maxHeartbeats 4000000 in
theorem cw_X0_term {X : CX} {fr lo : Nat} (h1 : Nat.ble (0 + 1) fr = true) (h2 : Nat.ble (21 + 0) lo = true) : CW X fr lo yX0_term cX0_term 2 (some .int) 0 0 1 := ⟨q579, q126, ⟨by decide +kernel, by decide +kernel, by decide +kernel⟩, Nat.le_of_ble_eq_true h1, Nat.le_of_ble_eq_true h2⟩

set_option maxHeartbeats 4000000 in
noncomputable def F_X0_nothing_2 : Nat → St → Int32 → Option (Unit × St)
  | 0 => fun _ _ => none
  | n + 1 => fun s x1 => if (15 : Int32) ≤ x1 then (bnd (F_X0_term s (8 : Int32)) fun r2 s3 => gd (inb (13 : Int32) 15) <| nam (setL s3 22 (13 : Int32).toNatClampNeg ((r2).toInt64)) fun s6 => some ((), s6)) else (gd (inb x1 15) <| nam (setL s 22 x1.toNatClampNeg (-1 : Int64)) fun s9 => F_X0_nothing_2  n s9 (x1 + (1)))
set_option maxHeartbeats 4000000 in
theorem w_X0_nothing_2 {X : CX} {E : EV} {a0 s' : St} {r : Unit} (B : FX X E cX0_nothing 2 none "RoseThrow" "nothing" (sn a0) (ss a0) 1 21) (hS : ∀ σ, eSk E σ ↔ SkC σ) : ∀ (n : Nat) (s : St) (x1 : Int32), F_X0_nothing_2   n s x1 = some (r, s') → J X E (sn a0) (ss a0) 2 (QR X E a0 none s') s 2 [(0, vr (some 0)), (1, vi x1)] [] := by
  intro n
  induction n with
  | zero => intro s x1 h; exact absurd (show (none : Option (Unit × St)) = _ from h) (by simp)
  | succ n ih =>
    intro s x1 h
    rw [F_X0_nothing_2] at h
    refine r_iload_n (j := 1) B dX0_nothing_2 rfl rfl ?_
    refine r_bipush (v := 15) B dX0_nothing_3 (by decide) ?_
    refine r_ic_ge (tgt := 26) B dX0_nothing_5 (by decide) (fun cn1 => ?_) (fun cn1 => ?_)
    · have h := ot cn1 h
      refine r_aload_n (j := 0) B dX0_nothing_26 rfl rfl ?_
      refine g0 (k := 16) B (vr (some 20)) rfl (fun z => by rw [((hS _).1 z).1 0 (by decide)]; rfl) rfl q372 rfl (fun z => by rw [((hS _).1 z).2 _ (List.mem_of_getElem? (i := 10) rfl)]; rfl) dX0_nothing_27 ?_
      refine g2N (k := 1) B (vr (some 22)) rfl (fun z => by rw [((hS _).1 z).1 20 (by decide)]; rfl) rfl (lw_n q322 rfl) rfl (fun z => by rw [((hS _).1 z).2 _ (List.mem_of_getElem? (i := 26) rfl)]; rfl) dX0_nothing_30 ?_
      refine r_bipush (v := 13) B dX0_nothing_33 (by decide) ?_
      refine r_aload_n (j := 0) B dX0_nothing_35 rfl rfl ?_
      refine r_bipush (v := 8) B dX0_nothing_36 (by decide) ?_
      obtain ⟨r2, s3, hc4, h⟩ := bnd_e h
      refine r_callVv (As := [vi (8 : Int32)]) (rest := [vi (13 : Int32), vr (some 22)]) B rfl rfl EX.same (c_X0_term B.ge hS hc4) (cw_X0_term rfl rfl) (fun z => RV.of 0 (by rw [((hS _).1 z).1 0 (by decide)]; rfl) rfl rfl qs10) q576 q578 rfl dX0_nothing_38 ?_
      refine r_i2l B dX0_nothing_41 ?_
      obtain ⟨hg5, h⟩ := gd_e h
      obtain ⟨s6, e7, h⟩ := nam_e h
      refine r_last B e7 rfl (fun z => ((hS _).1 z).1 22 (by decide)) hg5 dX0_nothing_42 ?_
      exact r_vret B dX0_nothing_43 h
    · have h := of cn1 h
      refine r_aload_n (j := 0) B dX0_nothing_8 rfl rfl ?_
      refine g0 (k := 16) B (vr (some 20)) rfl (fun z => by rw [((hS _).1 z).1 0 (by decide)]; rfl) rfl q372 rfl (fun z => by rw [((hS _).1 z).2 _ (List.mem_of_getElem? (i := 10) rfl)]; rfl) dX0_nothing_9 ?_
      refine g2N (k := 1) B (vr (some 22)) rfl (fun z => by rw [((hS _).1 z).1 20 (by decide)]; rfl) rfl (lw_n q322 rfl) rfl (fun z => by rw [((hS _).1 z).2 _ (List.mem_of_getElem? (i := 26) rfl)]; rfl) dX0_nothing_12 ?_
      refine r_iload_n (j := 1) B dX0_nothing_15 rfl rfl ?_
      refine r_ldc2 B dX0_nothing_16 q575 ?_
      obtain ⟨hg8, h⟩ := gd_e h
      obtain ⟨s9, e10, h⟩ := nam_e h
      refine r_last B e10 rfl (fun z => ((hS _).1 z).1 22 (by decide)) hg8 dX0_nothing_19 ?_
      refine r_iinc (j := 1) (v := (x1 + (1))) (L' := [(0, vr (some 0)), (1, vi (x1 + (1)))]) B dX0_nothing_20 rfl rfl (by decide) rfl rfl rfl ?_
      refine r_goto (tgt := 2) B dX0_nothing_23 (by decide) ?_
      exact ih s9 (x1 + (1)) h
set_option maxHeartbeats 4000000 in
noncomputable def F_X0_nothing (s : St)  : Option (Unit × St) := F_X0_nothing_2 FU s (0 : Int32)
set_option maxHeartbeats 4000000 in
theorem c_X0_nothing {l : Launch} {E : EV} (hE : GE E) (hS : ∀ σ, eSk E σ ↔ SkC σ) {s s' : St} {r : Unit}  (h : F_X0_nothing  s  = some (r, s')) : CT l E yX0_nothing cX0_nothing 2 none 1 21 [vr (some 0)] s none s' := by
  refine CT.start hE (by decide) rfl [(0, vr (some 0))] rfl (fun X hX B => ?_)
  skip
  have B : FX X E cX0_nothing 2 none "RoseThrow" "nothing" (sn s) (ss s) 1 21 := B
  unfold F_X0_nothing at h
  refine r_iconst (v := 0) B dX0_nothing_0 (by decide) ?_
  refine r_istore_n (L' := [(0, vr (some 0)), (1, vi (0 : Int32))]) B dX0_nothing_1 rfl (by decide) rfl rfl rfl ?_
  exact w_X0_nothing_2 B hS FU s (0 : Int32) h
set_option maxHeartbeats 4000000 in
theorem cw_X0_nothing {X : CX} {fr lo : Nat} (h1 : Nat.ble (1 + 1) fr = true) (h2 : Nat.ble (21 + 21) lo = true) : CW X fr lo yX0_nothing cX0_nothing 2 none 1 21 0 := ⟨q574, q126, ⟨by decide +kernel, by decide +kernel, by decide +kernel⟩, Nat.le_of_ble_eq_true h1, Nat.le_of_ble_eq_true h2⟩

set_option maxHeartbeats 4000000 in
noncomputable def F_X0_looksAt (s : St) (p0 : Int32) (p1 : Int32) (p2 : Int32) : Option (Unit × St) := bnd (F_X0_nothing s) fun _ s2 => gd (inb (6 : Int32) 15) <| nam (setL s2 22 (6 : Int32).toNatClampNeg ((p0).toInt64)) fun s5 => gd (inb (7 : Int32) 15) <| nam (setL s5 22 (7 : Int32).toNatClampNeg ((p2).toInt64)) fun s8 => gd (inb (8 : Int32) 15) <| nam (setL s8 22 (8 : Int32).toNatClampNeg ((p1).toInt64)) fun s11 => some ((), s11)
set_option maxHeartbeats 4000000 in
theorem c_X0_looksAt {l : Launch} {E : EV} (hE : GE E) (hS : ∀ σ, eSk E σ ↔ SkC σ) {s s' : St} {r : Unit} {p0 : Int32} {p1 : Int32} {p2 : Int32} (h : F_X0_looksAt  s p0 p1 p2 = some (r, s')) : CT l E yX0_looksAt cX0_looksAt 4 none 2 42 [vr (some 0), vi p0, vi p1, vi p2] s none s' := by
  refine CT.start hE (by decide) rfl [(0, vr (some 0)), (1, vi p0), (2, vi p1), (3, vi p2)] rfl (fun X hX B => ?_)
  skip
  have B : FX X E cX0_looksAt 4 none "RoseThrow" "looksAt" (sn s) (ss s) 2 42 := B
  unfold F_X0_looksAt at h
  refine r_aload_n (j := 0) B dX0_looksAt_0 rfl rfl ?_
  obtain ⟨r1, s2, hc3, h⟩ := bnd_e h
  refine r_callV0 (As := []) (rest := []) B rfl rfl EX.same (c_X0_nothing B.ge hS hc3) (cw_X0_nothing rfl rfl) (fun z => RV.of 0 (by rw [((hS _).1 z).1 0 (by decide)]; rfl) rfl rfl qs9) q571 q573 rfl dX0_looksAt_1 ?_
  refine r_aload_n (j := 0) B dX0_looksAt_4 rfl rfl ?_
  refine g0 (k := 16) B (vr (some 20)) rfl (fun z => by rw [((hS _).1 z).1 0 (by decide)]; rfl) rfl q372 rfl (fun z => by rw [((hS _).1 z).2 _ (List.mem_of_getElem? (i := 10) rfl)]; rfl) dX0_looksAt_5 ?_
  refine g2N (k := 1) B (vr (some 22)) rfl (fun z => by rw [((hS _).1 z).1 20 (by decide)]; rfl) rfl (lw_n q322 rfl) rfl (fun z => by rw [((hS _).1 z).2 _ (List.mem_of_getElem? (i := 26) rfl)]; rfl) dX0_looksAt_8 ?_
  refine r_bipush (v := 6) B dX0_looksAt_11 (by decide) ?_
  refine r_iload_n (j := 1) B dX0_looksAt_13 rfl rfl ?_
  refine r_i2l B dX0_looksAt_14 ?_
  obtain ⟨hg4, h⟩ := gd_e h
  obtain ⟨s5, e6, h⟩ := nam_e h
  refine r_last B e6 rfl (fun z => ((hS _).1 z).1 22 (by decide)) hg4 dX0_looksAt_15 ?_
  refine r_aload_n (j := 0) B dX0_looksAt_16 rfl rfl ?_
  refine g0 (k := 16) B (vr (some 20)) rfl (fun z => by rw [((hS _).1 z).1 0 (by decide)]; rfl) rfl q372 rfl (fun z => by rw [((hS _).1 z).2 _ (List.mem_of_getElem? (i := 10) rfl)]; rfl) dX0_looksAt_17 ?_
  refine g2N (k := 1) B (vr (some 22)) rfl (fun z => by rw [((hS _).1 z).1 20 (by decide)]; rfl) rfl (lw_n q322 rfl) rfl (fun z => by rw [((hS _).1 z).2 _ (List.mem_of_getElem? (i := 26) rfl)]; rfl) dX0_looksAt_20 ?_
  refine r_bipush (v := 7) B dX0_looksAt_23 (by decide) ?_
  refine r_iload_n (j := 3) B dX0_looksAt_25 rfl rfl ?_
  refine r_i2l B dX0_looksAt_26 ?_
  obtain ⟨hg7, h⟩ := gd_e h
  obtain ⟨s8, e9, h⟩ := nam_e h
  refine r_last B e9 rfl (fun z => ((hS _).1 z).1 22 (by decide)) hg7 dX0_looksAt_27 ?_
  refine r_aload_n (j := 0) B dX0_looksAt_28 rfl rfl ?_
  refine g0 (k := 16) B (vr (some 20)) rfl (fun z => by rw [((hS _).1 z).1 0 (by decide)]; rfl) rfl q372 rfl (fun z => by rw [((hS _).1 z).2 _ (List.mem_of_getElem? (i := 10) rfl)]; rfl) dX0_looksAt_29 ?_
  refine g2N (k := 1) B (vr (some 22)) rfl (fun z => by rw [((hS _).1 z).1 20 (by decide)]; rfl) rfl (lw_n q322 rfl) rfl (fun z => by rw [((hS _).1 z).2 _ (List.mem_of_getElem? (i := 26) rfl)]; rfl) dX0_looksAt_32 ?_
  refine r_bipush (v := 8) B dX0_looksAt_35 (by decide) ?_
  refine r_iload_n (j := 2) B dX0_looksAt_37 rfl rfl ?_
  refine r_i2l B dX0_looksAt_38 ?_
  obtain ⟨hg10, h⟩ := gd_e h
  obtain ⟨s11, e12, h⟩ := nam_e h
  refine r_last B e12 rfl (fun z => ((hS _).1 z).1 22 (by decide)) hg10 dX0_looksAt_39 ?_
  exact r_vret B dX0_looksAt_40 h
set_option maxHeartbeats 4000000 in
theorem cw_X0_looksAt {X : CX} {fr lo : Nat} (h1 : Nat.ble (2 + 1) fr = true) (h2 : Nat.ble (23 + 42) lo = true) : CW X fr lo yX0_looksAt cX0_looksAt 4 none 2 42 3 := ⟨q570, q126, ⟨by decide +kernel, by decide +kernel, by decide +kernel⟩, Nat.le_of_ble_eq_true h1, Nat.le_of_ble_eq_true h2⟩

set_option maxHeartbeats 4000000 in
noncomputable def F_X11_of (s : St) (this : Nat) (p0 : Option Nat) : Option (Int64 × St) := gd (isK s this 9) <| some ((((si s this 0)).toInt64), s)
set_option maxHeartbeats 4000000 in
theorem c_X11_of {l : Launch} {E : EV} (hE : GE E) (h0 : ∀ σ, eSk E σ) {s s' : St} {r : Int64} {this : Nat} {p0 : Option Nat} (h : F_X11_of  s this p0 = some (r, s')) : CT l E yX11_of cX11_of 2 (some .long) 0 0 [vr (some this), vr p0] s (some (vl r)) s' := by
  refine CT.start hE (by decide) rfl [(0, vr (some this)), (1, vr p0)] rfl (fun X hX B => ?_)
  skip
  have B : FX X E cX11_of 2 (some .long) "RoseThrow$Number" "of" (sn s) (ss s) 0 0 := B
  unfold F_X11_of at h
  refine r_aload_n (j := 0) B dX11_of_0 rfl rfl ?_
  obtain ⟨hg1, h⟩ := gd_e h
  refine g9 (k := 0) B (vi (si s this 0)) rfl (fun _ => isK_e hg1) rfl q925 rfl (fun _ => rfl) dX11_of_1 ?_
  refine r_i2l B dX11_of_4 ?_
  exact r_lret B dX11_of_5 h
set_option maxHeartbeats 4000000 in
theorem cw_X11_of {X : CX} {fr lo : Nat} (h1 : Nat.ble (0 + 1) fr = true) (h2 : Nat.ble (21 + 0) lo = true) : CW X fr lo yX11_of cX11_of 2 (some .long) 0 0 1 := ⟨q626, q147, ⟨by decide +kernel, by decide +kernel, by decide +kernel⟩, Nat.le_of_ble_eq_true h1, Nat.le_of_ble_eq_true h2⟩

set_option maxHeartbeats 4000000 in
noncomputable def F_X12_of (s : St) (this : Nat) (p0 : Option Nat) : Option (Int64 × St) := drf p0 fun a1 => gd (isK s a1 2) <| gd (isK s this 10) <| drf (sr s a1 1) fun a5 => gd (isK s a5 101) <| gd (inb (si s this 0) (sk s a5).2) <| some ((sl s a5 (si s this 0).toNatClampNeg), s)
set_option maxHeartbeats 4000000 in
theorem c_X12_of {l : Launch} {E : EV} (hE : GE E) (h0 : ∀ σ, eSk E σ) {s s' : St} {r : Int64} {this : Nat} {p0 : Option Nat} (h : F_X12_of  s this p0 = some (r, s')) : CT l E yX12_of cX12_of 2 (some .long) 0 0 [vr (some this), vr p0] s (some (vl r)) s' := by
  refine CT.start hE (by decide) rfl [(0, vr (some this)), (1, vr p0)] rfl (fun X hX B => ?_)
  skip
  have B : FX X E cX12_of 2 (some .long) "RoseThrow$Value" "of" (sn s) (ss s) 0 0 := B
  unfold F_X12_of at h
  refine r_aload_n (j := 1) B dX12_of_0 rfl rfl ?_
  obtain ⟨a1, ea2, h⟩ := drf_e h
  obtain ⟨hg3, h⟩ := gd_e h
  refine g2N (k := 1) B (vr (sr s a1 1)) ea2 (fun _ => isK_e hg3) rfl (lw_n q321 rfl) rfl (fun _ => rfl) dX12_of_1 ?_
  refine r_aload_n (j := 0) B dX12_of_4 rfl rfl ?_
  obtain ⟨hg4, h⟩ := gd_e h
  refine g10 (k := 0) B (vi (si s this 0)) rfl (fun _ => isK_e hg4) rfl q976 rfl (fun _ => rfl) dX12_of_5 ?_
  obtain ⟨a5, ea6, h⟩ := drf_e h
  obtain ⟨hg7, h⟩ := gd_e h
  obtain ⟨hg8, h⟩ := gd_e h
  refine r_lald B ea6 (fun _ => isK_a hg7) hg8 dX12_of_8 ?_
  exact r_lret B dX12_of_9 h
set_option maxHeartbeats 4000000 in
theorem cw_X12_of {X : CX} {fr lo : Nat} (h1 : Nat.ble (0 + 1) fr = true) (h2 : Nat.ble (21 + 0) lo = true) : CW X fr lo yX12_of cX12_of 2 (some .long) 0 0 1 := ⟨q632, q148, ⟨by decide +kernel, by decide +kernel, by decide +kernel⟩, Nat.le_of_ble_eq_true h1, Nat.le_of_ble_eq_true h2⟩

set_option maxHeartbeats 4000000 in
noncomputable def F_X13_of_137 (recS : St → Nat → Option Nat → Option ((Int64 ⊕ Nat) × St)) (s : St) (x1 : Option Nat) : Option ((Int64 ⊕ Nat) × St) := drf x1 fun a1 => gd (isK s a1 2) <| drf (sr s a1 0) fun a4 => gd (isK s a4 3) <| some (.inr a4, s)
set_option maxHeartbeats 4000000 in
theorem w_X13_of_137 {X : CX} {E : EV} {a0 s' : St} {r : (Int64 ⊕ Nat)} {recS : St → Nat → Option Nat → Option ((Int64 ⊕ Nat) × St)} {FR LO : Nat} (B : FX X E cX13_of 8 (some .long) "RoseThrow$Two" "of" (sn a0) (ss a0) FR LO) (ht : ∀ x ∈ (xC X).exceptionTable.toList, False) (h0 : ∀ σ, eSk E σ) (hr : ∀ {s s' : St} {a : Nat} {p : Option Nat} {r : Int64 ⊕ Nat}, recS s a p = some (r, s') → DSP (xL X) E ⟨"RoseThrow$Sum", "of", "(LRoseThrow$Setting;)J"⟩ FR LO [vr p] a s (oX (fun v => some (vl v)) 3 r) s') (hF : 100 ≤ FR) (hL : 9000 ≤ LO) (s : St) (x1 : Option Nat) (h : F_X13_of_137 recS  s x1 = some (r, s')) : J X E (sn a0) (ss a0) 8 (QZ X E a0 (oX (fun v => some (vl v)) 3 r) s') s 137 [(1, vr x1)] [] := by
  unfold F_X13_of_137 at h
  refine r_aload_n (j := 0) B dX13_of_137 rfl rfl ?_
  obtain ⟨a1, ea2, h⟩ := drf_e h
  obtain ⟨hg3, h⟩ := gd_e h
  refine g2N (k := 0) B (vr (sr s a1 0)) ea2 (fun _ => isK_e hg3) rfl (lw_n q319 rfl) rfl (fun _ => rfl) dX13_of_138 ?_
  obtain ⟨a4, ea5, h⟩ := drf_e h
  obtain ⟨hg6, h⟩ := gd_e h
  cases h
  exact r_athrow B ea5 dX13_of_141 (r_out B ht (isK_e hg6) rfl (by decide) rfl)
set_option maxHeartbeats 4000000 in
noncomputable def F_X13_of_117 (recS : St → Nat → Option Nat → Option ((Int64 ⊕ Nat) × St)) (s : St) (x1 : Option Nat) (z0 : Int64) : Option ((Int64 ⊕ Nat) × St) := if (1000000000 : Int64) < z0 then (F_X13_of_137 recS s x1) else (if (-1000000000 : Int64) ≤ z0 then (some (.inl z0, s)) else (F_X13_of_137 recS s x1))
set_option maxHeartbeats 4000000 in
theorem w_X13_of_117 {X : CX} {E : EV} {a0 s' : St} {r : (Int64 ⊕ Nat)} {recS : St → Nat → Option Nat → Option ((Int64 ⊕ Nat) × St)} {FR LO : Nat} (B : FX X E cX13_of 8 (some .long) "RoseThrow$Two" "of" (sn a0) (ss a0) FR LO) (ht : ∀ x ∈ (xC X).exceptionTable.toList, False) (h0 : ∀ σ, eSk E σ) (hr : ∀ {s s' : St} {a : Nat} {p : Option Nat} {r : Int64 ⊕ Nat}, recS s a p = some (r, s') → DSP (xL X) E ⟨"RoseThrow$Sum", "of", "(LRoseThrow$Setting;)J"⟩ FR LO [vr p] a s (oX (fun v => some (vl v)) 3 r) s') (hF : 100 ≤ FR) (hL : 9000 ≤ LO) (s : St) (x1 : Option Nat) (z0 : Int64) (h : F_X13_of_117 recS  s x1 z0 = some (r, s')) : J X E (sn a0) (ss a0) 8 (QZ X E a0 (oX (fun v => some (vl v)) 3 r) s') s 117 [(1, vr x1)] [vl z0] := by
  unfold F_X13_of_117 at h
  refine r_lstore (L' := [(1, vr x1), (6, vl z0)]) B dX13_of_117 (by decide) rfl rfl rfl ?_
  refine r_lload (j := 1) B dX13_of_119 rfl ?_
  refine r_ldc2 B dX13_of_121 q633 ?_
  refine r_lcmp B dX13_of_124 ?_
  refine r_if_gt (tgt := 137) B dX13_of_125 (by decide) (fun cn1 => ?_) (fun cn1 => ?_)
  · have h := ot (lc_gt.mp cn1) h
    refine r_pick [0] (L' := [(1, vr x1)]) rfl ?_
    exact w_X13_of_137 B ht h0 hr hF hL s x1 h
  · have h := of (fun z => cn1 (lc_gt.mpr z)) h
    refine r_lload (j := 1) B dX13_of_128 rfl ?_
    refine r_ldc2 B dX13_of_130 q634 ?_
    refine r_lcmp B dX13_of_133 ?_
    refine r_if_ge (tgt := 142) B dX13_of_134 (by decide) (fun cn2 => ?_) (fun cn2 => ?_)
    · have h := ot (lc_ge.mp cn2) h
      refine r_lload (j := 1) B dX13_of_142 rfl ?_
      cases h
      exact r_ret (r_lret B dX13_of_144 rfl)
    · have h := of (fun z => cn2 (lc_ge.mpr z)) h
      refine r_pick [0] (L' := [(1, vr x1)]) rfl ?_
      exact w_X13_of_137 B ht h0 hr hF hL s x1 h
set_option maxHeartbeats 4000000 in
noncomputable def F_X13_of_49 (recS : St → Nat → Option Nat → Option ((Int64 ⊕ Nat) × St)) (s : St) (x0 : Option Nat) (x1 : Option Nat) (x2 : Int64) (x4 : Int64) : Option ((Int64 ⊕ Nat) × St) := drf x0 fun a1 => gd (isK s a1 11) <| if (si s a1 0) = (43 : Int32) then (F_X13_of_117 recS s x1 (x2 + x4)) else (drf x0 fun a5 => gd (isK s a5 11) <| if (si s a5 0) = (45 : Int32) then (F_X13_of_117 recS s x1 (x2 - x4)) else (drf x0 fun a9 => gd (isK s a9 11) <| if (si s a9 0) = (42 : Int32) then (F_X13_of_117 recS s x1 (x2 * x4)) else (drf x0 fun a13 => gd (isK s a13 11) <| if (si s a13 0) = (47 : Int32) then (gd (nzl x4) <| F_X13_of_117 recS s x1 (x2 / x4)) else (gd (nzl x4) <| F_X13_of_117 recS s x1 (x2 - x2 / x4 * x4)))))
set_option maxHeartbeats 4000000 in
theorem w_X13_of_49 {X : CX} {E : EV} {a0 s' : St} {r : (Int64 ⊕ Nat)} {recS : St → Nat → Option Nat → Option ((Int64 ⊕ Nat) × St)} {FR LO : Nat} (B : FX X E cX13_of 8 (some .long) "RoseThrow$Two" "of" (sn a0) (ss a0) FR LO) (ht : ∀ x ∈ (xC X).exceptionTable.toList, False) (h0 : ∀ σ, eSk E σ) (hr : ∀ {s s' : St} {a : Nat} {p : Option Nat} {r : Int64 ⊕ Nat}, recS s a p = some (r, s') → DSP (xL X) E ⟨"RoseThrow$Sum", "of", "(LRoseThrow$Setting;)J"⟩ FR LO [vr p] a s (oX (fun v => some (vl v)) 3 r) s') (hF : 100 ≤ FR) (hL : 9000 ≤ LO) (s : St) (x0 : Option Nat) (x1 : Option Nat) (x2 : Int64) (x4 : Int64) (h : F_X13_of_49 recS  s x0 x1 x2 x4 = some (r, s')) : J X E (sn a0) (ss a0) 8 (QZ X E a0 (oX (fun v => some (vl v)) 3 r) s') s 49 [(0, vr x0), (1, vr x1), (2, vl x2), (4, vl x4)] [] := by
  unfold F_X13_of_49 at h
  refine r_aload_n (j := 0) B dX13_of_49 rfl rfl ?_
  obtain ⟨a1, ea2, h⟩ := drf_e h
  obtain ⟨hg3, h⟩ := gd_e h
  refine g11 (k := 0) B (vi (si s a1 0)) ea2 (fun _ => isK_e hg3) rfl q989 rfl (fun _ => rfl) dX13_of_50 ?_
  refine r_bipush (v := 43) B dX13_of_53 (by decide) ?_
  refine r_ic_ne (tgt := 65) B dX13_of_55 (by decide) (fun cn4 => ?_) (fun cn4 => ?_)
  · have h := of cn4 h
    refine r_aload_n (j := 0) B dX13_of_65 rfl rfl ?_
    obtain ⟨a5, ea6, h⟩ := drf_e h
    obtain ⟨hg7, h⟩ := gd_e h
    refine g11 (k := 0) B (vi (si s a5 0)) ea6 (fun _ => isK_e hg7) rfl q989 rfl (fun _ => rfl) dX13_of_66 ?_
    refine r_bipush (v := 45) B dX13_of_69 (by decide) ?_
    refine r_ic_ne (tgt := 81) B dX13_of_71 (by decide) (fun cn8 => ?_) (fun cn8 => ?_)
    · have h := of cn8 h
      refine r_aload_n (j := 0) B dX13_of_81 rfl rfl ?_
      obtain ⟨a9, ea10, h⟩ := drf_e h
      obtain ⟨hg11, h⟩ := gd_e h
      refine g11 (k := 0) B (vi (si s a9 0)) ea10 (fun _ => isK_e hg11) rfl q989 rfl (fun _ => rfl) dX13_of_82 ?_
      refine r_bipush (v := 42) B dX13_of_85 (by decide) ?_
      refine r_ic_ne (tgt := 97) B dX13_of_87 (by decide) (fun cn12 => ?_) (fun cn12 => ?_)
      · have h := of cn12 h
        refine r_aload_n (j := 0) B dX13_of_97 rfl rfl ?_
        obtain ⟨a13, ea14, h⟩ := drf_e h
        obtain ⟨hg15, h⟩ := gd_e h
        refine g11 (k := 0) B (vi (si s a13 0)) ea14 (fun _ => isK_e hg15) rfl q989 rfl (fun _ => rfl) dX13_of_98 ?_
        refine r_bipush (v := 47) B dX13_of_101 (by decide) ?_
        refine r_ic_ne (tgt := 113) B dX13_of_103 (by decide) (fun cn16 => ?_) (fun cn16 => ?_)
        · have h := of cn16 h
          refine r_lload_n (j := 2) B dX13_of_113 rfl rfl ?_
          refine r_lload (j := 3) B dX13_of_114 rfl ?_
          obtain ⟨hg17, h⟩ := gd_e h
          refine r_lrem B dX13_of_116 (nzl_e hg17) ?_
          refine r_pick [1] (L' := [(1, vr x1)]) rfl ?_
          exact w_X13_of_117 B ht h0 hr hF hL s x1 (x2 - x2 / x4 * x4) h
        · have h := ot cn16 h
          refine r_lload_n (j := 2) B dX13_of_106 rfl rfl ?_
          refine r_lload (j := 3) B dX13_of_107 rfl ?_
          obtain ⟨hg18, h⟩ := gd_e h
          refine r_ldiv B dX13_of_109 (nzl_e hg18) ?_
          refine r_goto (tgt := 117) B dX13_of_110 (by decide) ?_
          refine r_pick [1] (L' := [(1, vr x1)]) rfl ?_
          exact w_X13_of_117 B ht h0 hr hF hL s x1 (x2 / x4) h
      · have h := ot cn12 h
        refine r_lload_n (j := 2) B dX13_of_90 rfl rfl ?_
        refine r_lload (j := 3) B dX13_of_91 rfl ?_
        refine r_lmul B dX13_of_93 ?_
        refine r_goto (tgt := 117) B dX13_of_94 (by decide) ?_
        refine r_pick [1] (L' := [(1, vr x1)]) rfl ?_
        exact w_X13_of_117 B ht h0 hr hF hL s x1 (x2 * x4) h
    · have h := ot cn8 h
      refine r_lload_n (j := 2) B dX13_of_74 rfl rfl ?_
      refine r_lload (j := 3) B dX13_of_75 rfl ?_
      refine r_lsub B dX13_of_77 ?_
      refine r_goto (tgt := 117) B dX13_of_78 (by decide) ?_
      refine r_pick [1] (L' := [(1, vr x1)]) rfl ?_
      exact w_X13_of_117 B ht h0 hr hF hL s x1 (x2 - x4) h
  · have h := ot cn4 h
    refine r_lload_n (j := 2) B dX13_of_58 rfl rfl ?_
    refine r_lload (j := 3) B dX13_of_59 rfl ?_
    refine r_ladd B dX13_of_61 ?_
    refine r_goto (tgt := 117) B dX13_of_62 (by decide) ?_
    refine r_pick [1] (L' := [(1, vr x1)]) rfl ?_
    exact w_X13_of_117 B ht h0 hr hF hL s x1 (x2 + x4) h
set_option maxHeartbeats 4000000 in
noncomputable def F_X13_of_37 (recS : St → Nat → Option Nat → Option ((Int64 ⊕ Nat) × St)) (s : St) (x0 : Option Nat) (x1 : Option Nat) (x2 : Int64) (x4 : Int64) : Option ((Int64 ⊕ Nat) × St) := if x4 = (0 : Int64) then (drf x1 fun a2 => gd (isK s a2 2) <| drf (sr s a2 0) fun a5 => gd (isK s a5 3) <| some (.inr a5, s)) else (F_X13_of_49 recS s x0 x1 x2 x4)
set_option maxHeartbeats 4000000 in
theorem w_X13_of_37 {X : CX} {E : EV} {a0 s' : St} {r : (Int64 ⊕ Nat)} {recS : St → Nat → Option Nat → Option ((Int64 ⊕ Nat) × St)} {FR LO : Nat} (B : FX X E cX13_of 8 (some .long) "RoseThrow$Two" "of" (sn a0) (ss a0) FR LO) (ht : ∀ x ∈ (xC X).exceptionTable.toList, False) (h0 : ∀ σ, eSk E σ) (hr : ∀ {s s' : St} {a : Nat} {p : Option Nat} {r : Int64 ⊕ Nat}, recS s a p = some (r, s') → DSP (xL X) E ⟨"RoseThrow$Sum", "of", "(LRoseThrow$Setting;)J"⟩ FR LO [vr p] a s (oX (fun v => some (vl v)) 3 r) s') (hF : 100 ≤ FR) (hL : 9000 ≤ LO) (s : St) (x0 : Option Nat) (x1 : Option Nat) (x2 : Int64) (x4 : Int64) (h : F_X13_of_37 recS  s x0 x1 x2 x4 = some (r, s')) : J X E (sn a0) (ss a0) 8 (QZ X E a0 (oX (fun v => some (vl v)) 3 r) s') s 37 [(0, vr x0), (1, vr x1), (2, vl x2), (4, vl x4)] [] := by
  unfold F_X13_of_37 at h
  refine r_lload (j := 3) B dX13_of_37 rfl ?_
  refine r_lconst (v := 0) B dX13_of_39 (by decide) ?_
  refine r_lcmp B dX13_of_40 ?_
  refine r_if_ne (tgt := 49) B dX13_of_41 (by decide) (fun cn1 => ?_) (fun cn1 => ?_)
  · have h := of (fun z => cn1 (lc_eq.mpr z)) h
    exact w_X13_of_49 B ht h0 hr hF hL s x0 x1 x2 x4 h
  · have h := ot (lc_eq.mp cn1) h
    refine r_aload_n (j := 1) B dX13_of_44 rfl rfl ?_
    obtain ⟨a2, ea3, h⟩ := drf_e h
    obtain ⟨hg4, h⟩ := gd_e h
    refine g2N (k := 0) B (vr (sr s a2 0)) ea3 (fun _ => isK_e hg4) rfl (lw_n q319 rfl) rfl (fun _ => rfl) dX13_of_45 ?_
    obtain ⟨a5, ea6, h⟩ := drf_e h
    obtain ⟨hg7, h⟩ := gd_e h
    cases h
    exact r_athrow B ea6 dX13_of_48 (r_out B ht (isK_e hg7) rfl (by decide) rfl)
set_option maxHeartbeats 4000000 in
noncomputable def F_X13_of (recS : St → Nat → Option Nat → Option ((Int64 ⊕ Nat) × St)) (s : St) (this : Nat) (p0 : Option Nat) : Option ((Int64 ⊕ Nat) × St) := gd (isK s this 11) <| drf (sr s this 1) fun a2 => bnx (recS s a2 p0) (fun b7 s5 => some (.inr b7, s5)) <| fun r4 s5 => gd (isK s5 this 11) <| drf (sr s5 this 2) fun a9 => bnx (recS s5 a9 p0) (fun b14 s12 => some (.inr b14, s12)) <| fun r11 s12 => gd (isK s12 this 11) <| if (si s12 this 0) = (47 : Int32) then (F_X13_of_37 recS s12 (some this) p0 r4 r11) else (gd (isK s12 this 11) <| if (si s12 this 0) = (37 : Int32) then (F_X13_of_37 recS s12 (some this) p0 r4 r11) else (F_X13_of_49 recS s12 (some this) p0 r4 r11))
set_option maxHeartbeats 4000000 in
theorem c_X13_of {l : Launch} {E : EV} (hE : GE E) (h0 : ∀ σ, eSk E σ) {recS : St → Nat → Option Nat → Option ((Int64 ⊕ Nat) × St)} {FR LO : Nat} (hr : ∀ {s s' : St} {a : Nat} {p : Option Nat} {r : Int64 ⊕ Nat}, recS s a p = some (r, s') → DSP l E ⟨"RoseThrow$Sum", "of", "(LRoseThrow$Setting;)J"⟩ FR LO [vr p] a s (oX (fun v => some (vl v)) 3 r) s') (hF : 100 ≤ FR) (hL : 9000 ≤ LO) {s s' : St} {r : (Int64 ⊕ Nat)} {this : Nat} {p0 : Option Nat} (h : F_X13_of recS s this p0 = some (r, s')) : CTX l E yX13_of cX13_of 8 (some .long) FR LO [vr (some this), vr p0] s (oX (fun v => some (vl v)) 3 r) s' := by
  refine CTX.start hE (by decide) rfl [(0, vr (some this)), (1, vr p0)] rfl (fun X hX B ht => ?_)
  subst hX
  have B : FX X E cX13_of 8 (some .long) "RoseThrow$Two" "of" (sn s) (ss s) FR LO := B
  unfold F_X13_of at h
  refine r_aload_n (j := 0) B dX13_of_0 rfl rfl ?_
  obtain ⟨hg1, h⟩ := gd_e h
  refine g11 (k := 1) B (vr (sr s this 1)) rfl (fun _ => isK_e hg1) rfl q990 rfl (fun _ => rfl) dX13_of_1 ?_
  refine r_aload_n (j := 1) B dX13_of_4 rfl rfl ?_
  obtain ⟨a2, ea3, h⟩ := drf_e h
  rcases bnx_e h with ⟨b7, s5, hc6, h⟩ | ⟨r4, s5, hc6, h⟩
  · cases h
    refine r_xDx (owner := "RoseThrow$Sum") (As := [vr p0]) (rest := []) B rfl ea3 EX.same (hr hc6) (Nat.le_refl _) (Nat.le_refl _) q630 q623 (lw_n q622 rfl) (by decide) rfl dX13_of_5 (fun hk => ?_)
    exact r_out B ht hk rfl (by decide) rfl
  refine r_xDn (owner := "RoseThrow$Sum") (As := [vr p0]) (rest := []) B rfl ea3 EX.same (hr hc6) (Nat.le_refl _) (Nat.le_refl _) q630 q623 (lw_n q622 rfl) (by decide) rfl dX13_of_5 ?_
  refine r_lstore_n (L' := [(0, vr (some this)), (1, vr p0), (2, vl r4)]) B dX13_of_8 rfl (by decide) rfl rfl rfl ?_
  refine r_aload_n (j := 0) B dX13_of_9 rfl rfl ?_
  obtain ⟨hg8, h⟩ := gd_e h
  refine g11 (k := 2) B (vr (sr s5 this 2)) rfl (fun _ => isK_e hg8) rfl q991 rfl (fun _ => rfl) dX13_of_10 ?_
  refine r_aload_n (j := 1) B dX13_of_13 rfl rfl ?_
  obtain ⟨a9, ea10, h⟩ := drf_e h
  rcases bnx_e h with ⟨b14, s12, hc13, h⟩ | ⟨r11, s12, hc13, h⟩
  · cases h
    refine r_xDx (owner := "RoseThrow$Sum") (As := [vr p0]) (rest := []) B rfl ea10 EX.same (hr hc13) (Nat.le_refl _) (Nat.le_refl _) q630 q623 (lw_n q622 rfl) (by decide) rfl dX13_of_14 (fun hk => ?_)
    exact r_out B ht hk rfl (by decide) rfl
  refine r_xDn (owner := "RoseThrow$Sum") (As := [vr p0]) (rest := []) B rfl ea10 EX.same (hr hc13) (Nat.le_refl _) (Nat.le_refl _) q630 q623 (lw_n q622 rfl) (by decide) rfl dX13_of_14 ?_
  refine r_lstore (L' := [(0, vr (some this)), (1, vr p0), (2, vl r4), (4, vl r11)]) B dX13_of_17 (by decide) rfl rfl rfl ?_
  refine r_aload_n (j := 0) B dX13_of_19 rfl rfl ?_
  obtain ⟨hg15, h⟩ := gd_e h
  refine g11 (k := 0) B (vi (si s12 this 0)) rfl (fun _ => isK_e hg15) rfl q989 rfl (fun _ => rfl) dX13_of_20 ?_
  refine r_bipush (v := 47) B dX13_of_23 (by decide) ?_
  refine r_ic_eq (tgt := 37) B dX13_of_25 (by decide) (fun cn16 => ?_) (fun cn16 => ?_)
  · have h := ot cn16 h
    exact w_X13_of_37 B ht h0 hr hF hL s12 (some this) p0 r4 r11 h
  · have h := of cn16 h
    refine r_aload_n (j := 0) B dX13_of_28 rfl rfl ?_
    obtain ⟨hg17, h⟩ := gd_e h
    refine g11 (k := 0) B (vi (si s12 this 0)) rfl (fun _ => isK_e hg17) rfl q989 rfl (fun _ => rfl) dX13_of_29 ?_
    refine r_bipush (v := 37) B dX13_of_32 (by decide) ?_
    refine r_ic_ne (tgt := 49) B dX13_of_34 (by decide) (fun cn18 => ?_) (fun cn18 => ?_)
    · have h := of cn18 h
      exact w_X13_of_49 B ht h0 hr hF hL s12 (some this) p0 r4 r11 h
    · have h := ot cn18 h
      exact w_X13_of_37 B ht h0 hr hF hL s12 (some this) p0 r4 r11 h
set_option maxHeartbeats 4000000 in
theorem cw_X13_of {FR LO : Nat} {X : CX} {fr lo : Nat} (h1 : Nat.ble (FR + 1) fr = true) (h2 : Nat.ble (27 + LO) lo = true) : CW X fr lo yX13_of cX13_of 8 (some .long) FR LO 1 := ⟨q629, q149, ⟨by decide +kernel, by decide +kernel, by decide +kernel⟩, Nat.le_of_ble_eq_true h1, Nat.le_of_ble_eq_true h2⟩

noncomputable def F_sumD : Nat → St → Nat → Option Nat → Option ((Int64 ⊕ Nat) × St)
  | 0 => fun _ _ _ => none
  | d + 1 => fun s a p => if isK s a 9 = true then lft (F_X11_of s a p) else if isK s a 10 = true then lft (F_X12_of s a p) else if isK s a 11 = true then F_X13_of (F_sumD d) s a p else none
theorem d_sum {l : Launch} {E : EV} (hE : GE E) (h0 : ∀ σ, eSk E σ) : ∀ (d : Nat) (s : St) (a : Nat) (p : Option Nat) (r : Int64 ⊕ Nat) (s' : St), F_sumD d s a p = some (r, s') → DSP l E (⟨"RoseThrow$Sum", "of", "(LRoseThrow$Setting;)J"⟩ : MethodName) (100 + d) (9000 + 40 * d) [vr p] a s (oX (fun v => some (vl v)) 3 r) s' := by
  intro d
  induction d with
  | zero => intro s a p r s' h; cases h
  | succ d ih =>
    intro s a p r s' h
    rw [F_sumD] at h
    by_cases hk : isK s a 9 = true
    · have h := ot hk h
      obtain ⟨v, rfl, h2⟩ := lft_e h
      exact ⟨yX11_of, cX11_of, 2, _, _, _, (RV.of 9 (isK_e hk) rfl rfl q624), q625, CTX.ofCT (c_X11_of hE h0 h2), ⟨q626, q147, ⟨by decide +kernel, by decide +kernel, show Option.map (fun d => d.parameters.length) (parseMethodDescriptor yX11_of.desc) = some 1 from by decide +kernel⟩⟩, by omega, by omega, rfl⟩
    have h := of hk h
    by_cases hk : isK s a 10 = true
    · have h := ot hk h
      obtain ⟨v, rfl, h2⟩ := lft_e h
      exact ⟨yX12_of, cX12_of, 2, _, _, _, (RV.of 10 (isK_e hk) rfl rfl q635), q631, CTX.ofCT (c_X12_of hE h0 h2), ⟨q632, q148, ⟨by decide +kernel, by decide +kernel, show Option.map (fun d => d.parameters.length) (parseMethodDescriptor yX12_of.desc) = some 1 from by decide +kernel⟩⟩, by omega, by omega, rfl⟩
    have h := of hk h
    by_cases hk : isK s a 11 = true
    · have h := ot hk h
      exact ⟨yX13_of, cX13_of, 8, _, _, _, (RV.of 11 (isK_e hk) rfl rfl q627), q628, c_X13_of hE h0 (FR := (100 + d)) (LO := (9000 + 40 * d)) (fun {_ _ _ _ _} h => ih _ _ _ _ _ h) (by omega) (by omega) h, ⟨q629, q149, ⟨by decide +kernel, by decide +kernel, show Option.map (fun d => d.parameters.length) (parseMethodDescriptor yX13_of.desc) = some 1 from by decide +kernel⟩⟩, by omega, by omega, rfl⟩
    have h := of hk h
    cases h

set_option maxHeartbeats 4000000 in
noncomputable def F_X15_is (s : St) (this : Nat) (p0 : Option Nat) : Option ((Int32 ⊕ Nat) × St) := gd (isK s this 12) <| drf (sr s this 1) fun a2 => bnx (F_sumD 64 s a2 p0) (fun b7 s5 => some (.inr b7, s5)) <| fun r4 s5 => gd (isK s5 this 12) <| drf (sr s5 this 2) fun a9 => bnx (F_sumD 64 s5 a9 p0) (fun b14 s12 => some (.inr b14, s12)) <| fun r11 s12 => gd (isK s12 this 12) <| if (si s12 this 0) = (60 : Int32) then (if r11 ≤ r4 then (some (.inl (0 : Int32), s12)) else (some (.inl (1 : Int32), s12))) else (gd (isK s12 this 12) <| if (si s12 this 0) = (62 : Int32) then (if r4 ≤ r11 then (some (.inl (0 : Int32), s12)) else (some (.inl (1 : Int32), s12))) else (if r4 = r11 then (some (.inl (1 : Int32), s12)) else (some (.inl (0 : Int32), s12))))
set_option maxHeartbeats 4000000 in
theorem c_X15_is {l : Launch} {E : EV} (hE : GE E) (h0 : ∀ σ, eSk E σ) {s s' : St} {r : (Int32 ⊕ Nat)} {this : Nat} {p0 : Option Nat} (h : F_X15_is  s this p0 = some (r, s')) : CTX l E yX15_is cX15_is 6 (some .boolean) 164 11560 [vr (some this), vr p0] s (oX (fun v => some (vi v)) 3 r) s' := by
  refine CTX.start hE (by decide) rfl [(0, vr (some this)), (1, vr p0)] rfl (fun X hX B ht => ?_)
  skip
  have B : FX X E cX15_is 6 (some .boolean) "RoseThrow$Compare" "is" (sn s) (ss s) 164 11560 := B
  unfold F_X15_is at h
  refine r_aload_n (j := 0) B dX15_is_0 rfl rfl ?_
  obtain ⟨hg1, h⟩ := gd_e h
  refine g12 (k := 1) B (vr (sr s this 1)) rfl (fun _ => isK_e hg1) rfl q1047 rfl (fun _ => rfl) dX15_is_1 ?_
  refine r_aload_n (j := 1) B dX15_is_4 rfl rfl ?_
  obtain ⟨a2, ea3, h⟩ := drf_e h
  rcases bnx_e h with ⟨b7, s5, hc6, h⟩ | ⟨r4, s5, hc6, h⟩
  · cases h
    refine r_xDx (owner := "RoseThrow$Sum") (As := [vr p0]) (rest := []) B rfl ea3 EX.same (d_sum B.ge h0 64 _ _ _ _ _ hc6) (by decide) (by decide) q621 q623 (lw_n q622 rfl) (by decide) rfl dX15_is_5 (fun hk => ?_)
    exact r_out B ht hk rfl (by decide) rfl
  refine r_xDn (owner := "RoseThrow$Sum") (As := [vr p0]) (rest := []) B rfl ea3 EX.same (d_sum B.ge h0 64 _ _ _ _ _ hc6) (by decide) (by decide) q621 q623 (lw_n q622 rfl) (by decide) rfl dX15_is_5 ?_
  refine r_lstore_n (L' := [(0, vr (some this)), (1, vr p0), (2, vl r4)]) B dX15_is_8 rfl (by decide) rfl rfl rfl ?_
  refine r_aload_n (j := 0) B dX15_is_9 rfl rfl ?_
  obtain ⟨hg8, h⟩ := gd_e h
  refine g12 (k := 2) B (vr (sr s5 this 2)) rfl (fun _ => isK_e hg8) rfl q1048 rfl (fun _ => rfl) dX15_is_10 ?_
  refine r_aload_n (j := 1) B dX15_is_13 rfl rfl ?_
  obtain ⟨a9, ea10, h⟩ := drf_e h
  rcases bnx_e h with ⟨b14, s12, hc13, h⟩ | ⟨r11, s12, hc13, h⟩
  · cases h
    refine r_xDx (owner := "RoseThrow$Sum") (As := [vr p0]) (rest := []) B rfl ea10 EX.same (d_sum B.ge h0 64 _ _ _ _ _ hc13) (by decide) (by decide) q621 q623 (lw_n q622 rfl) (by decide) rfl dX15_is_14 (fun hk => ?_)
    exact r_out B ht hk rfl (by decide) rfl
  refine r_xDn (owner := "RoseThrow$Sum") (As := [vr p0]) (rest := []) B rfl ea10 EX.same (d_sum B.ge h0 64 _ _ _ _ _ hc13) (by decide) (by decide) q621 q623 (lw_n q622 rfl) (by decide) rfl dX15_is_14 ?_
  refine r_lstore (L' := [(0, vr (some this)), (1, vr p0), (2, vl r4), (4, vl r11)]) B dX15_is_17 (by decide) rfl rfl rfl ?_
  refine r_aload_n (j := 0) B dX15_is_19 rfl rfl ?_
  obtain ⟨hg15, h⟩ := gd_e h
  refine g12 (k := 0) B (vi (si s12 this 0)) rfl (fun _ => isK_e hg15) rfl q1046 rfl (fun _ => rfl) dX15_is_20 ?_
  refine r_bipush (v := 60) B dX15_is_23 (by decide) ?_
  refine r_ic_ne (tgt := 43) B dX15_is_25 (by decide) (fun cn16 => ?_) (fun cn16 => ?_)
  · have h := of cn16 h
    refine r_aload_n (j := 0) B dX15_is_43 rfl rfl ?_
    obtain ⟨hg17, h⟩ := gd_e h
    refine g12 (k := 0) B (vi (si s12 this 0)) rfl (fun _ => isK_e hg17) rfl q1046 rfl (fun _ => rfl) dX15_is_44 ?_
    refine r_bipush (v := 62) B dX15_is_47 (by decide) ?_
    refine r_ic_ne (tgt := 67) B dX15_is_49 (by decide) (fun cn18 => ?_) (fun cn18 => ?_)
    · have h := of cn18 h
      refine r_lload_n (j := 2) B dX15_is_67 rfl rfl ?_
      refine r_lload (j := 3) B dX15_is_68 rfl ?_
      refine r_lcmp B dX15_is_70 ?_
      refine r_if_ne (tgt := 78) B dX15_is_71 (by decide) (fun cn19 => ?_) (fun cn19 => ?_)
      · have h := of (fun z => cn19 (lc_eq.mpr z)) h
        refine r_iconst (v := 0) B dX15_is_78 (by decide) ?_
        cases h
        exact r_ret (r_zret B dX15_is_79 (by decide) rfl)
      · have h := ot (lc_eq.mp cn19) h
        refine r_iconst (v := 1) B dX15_is_74 (by decide) ?_
        refine r_goto (tgt := 79) B dX15_is_75 (by decide) ?_
        cases h
        exact r_ret (r_zret B dX15_is_79 (by decide) rfl)
    · have h := ot cn18 h
      refine r_lload_n (j := 2) B dX15_is_52 rfl rfl ?_
      refine r_lload (j := 3) B dX15_is_53 rfl ?_
      refine r_lcmp B dX15_is_55 ?_
      refine r_if_le (tgt := 63) B dX15_is_56 (by decide) (fun cn20 => ?_) (fun cn20 => ?_)
      · have h := ot (lc_le.mp cn20) h
        refine r_iconst (v := 0) B dX15_is_63 (by decide) ?_
        refine r_goto (tgt := 79) B dX15_is_64 (by decide) ?_
        cases h
        exact r_ret (r_zret B dX15_is_79 (by decide) rfl)
      · have h := of (fun z => cn20 (lc_le.mpr z)) h
        refine r_iconst (v := 1) B dX15_is_59 (by decide) ?_
        refine r_goto (tgt := 79) B dX15_is_60 (by decide) ?_
        cases h
        exact r_ret (r_zret B dX15_is_79 (by decide) rfl)
  · have h := ot cn16 h
    refine r_lload_n (j := 2) B dX15_is_28 rfl rfl ?_
    refine r_lload (j := 3) B dX15_is_29 rfl ?_
    refine r_lcmp B dX15_is_31 ?_
    refine r_if_ge (tgt := 39) B dX15_is_32 (by decide) (fun cn21 => ?_) (fun cn21 => ?_)
    · have h := ot (lc_ge.mp cn21) h
      refine r_iconst (v := 0) B dX15_is_39 (by decide) ?_
      refine r_goto (tgt := 79) B dX15_is_40 (by decide) ?_
      cases h
      exact r_ret (r_zret B dX15_is_79 (by decide) rfl)
    · have h := of (fun z => cn21 (lc_ge.mpr z)) h
      refine r_iconst (v := 1) B dX15_is_35 (by decide) ?_
      refine r_goto (tgt := 79) B dX15_is_36 (by decide) ?_
      cases h
      exact r_ret (r_zret B dX15_is_79 (by decide) rfl)
set_option maxHeartbeats 4000000 in
theorem cw_X15_is {X : CX} {fr lo : Nat} (h1 : Nat.ble (164 + 1) fr = true) (h2 : Nat.ble (25 + 11560) lo = true) : CW X fr lo yX15_is cX15_is 6 (some .boolean) 164 11560 1 := ⟨q620, q151, ⟨by decide +kernel, by decide +kernel, by decide +kernel⟩, Nat.le_of_ble_eq_true h1, Nat.le_of_ble_eq_true h2⟩

set_option maxHeartbeats 4000000 in
noncomputable def F_X16_is (recT : St → Nat → Option Nat → Option ((Int32 ⊕ Nat) × St)) (s : St) (this : Nat) (p0 : Option Nat) : Option ((Int32 ⊕ Nat) × St) := gd (isK s this 13) <| drf (sr s this 0) fun a2 => bnx (recT s a2 p0) (fun b7 s5 => some (.inr b7, s5)) <| fun r4 s5 => if r4 = 0 then (some (.inl (1 : Int32), s5)) else (some (.inl (0 : Int32), s5))
set_option maxHeartbeats 4000000 in
theorem c_X16_is {l : Launch} {E : EV} (hE : GE E) (h0 : ∀ σ, eSk E σ) {recT : St → Nat → Option Nat → Option ((Int32 ⊕ Nat) × St)} {FR LO : Nat} (hr : ∀ {s s' : St} {a : Nat} {p : Option Nat} {r : Int32 ⊕ Nat}, recT s a p = some (r, s') → DSP l E ⟨"RoseThrow$Test", "is", "(LRoseThrow$Setting;)Z"⟩ FR LO [vr p] a s (oX (fun v => some (vi v)) 3 r) s') (hF : 100 ≤ FR) (hL : 9000 ≤ LO) {s s' : St} {r : (Int32 ⊕ Nat)} {this : Nat} {p0 : Option Nat} (h : F_X16_is recT s this p0 = some (r, s')) : CTX l E yX16_is cX16_is 2 (some .boolean) FR LO [vr (some this), vr p0] s (oX (fun v => some (vi v)) 3 r) s' := by
  refine CTX.start hE (by decide) rfl [(0, vr (some this)), (1, vr p0)] rfl (fun X hX B ht => ?_)
  subst hX
  have B : FX X E cX16_is 2 (some .boolean) "RoseThrow$Not" "is" (sn s) (ss s) FR LO := B
  unfold F_X16_is at h
  refine r_aload_n (j := 0) B dX16_is_0 rfl rfl ?_
  obtain ⟨hg1, h⟩ := gd_e h
  refine g13 (k := 0) B (vr (sr s this 0)) rfl (fun _ => isK_e hg1) rfl q1062 rfl (fun _ => rfl) dX16_is_1 ?_
  refine r_aload_n (j := 1) B dX16_is_4 rfl rfl ?_
  obtain ⟨a2, ea3, h⟩ := drf_e h
  rcases bnx_e h with ⟨b7, s5, hc6, h⟩ | ⟨r4, s5, hc6, h⟩
  · cases h
    refine r_xDx (owner := "RoseThrow$Test") (As := [vr p0]) (rest := []) B rfl ea3 EX.same (hr hc6) (Nat.le_refl _) (Nat.le_refl _) q639 q617 (lw_n q616 rfl) (by decide) rfl dX16_is_5 (fun hk => ?_)
    exact r_out B ht hk rfl (by decide) rfl
  refine r_xDn (owner := "RoseThrow$Test") (As := [vr p0]) (rest := []) B rfl ea3 EX.same (hr hc6) (Nat.le_refl _) (Nat.le_refl _) q639 q617 (lw_n q616 rfl) (by decide) rfl dX16_is_5 ?_
  refine r_if_ne (tgt := 15) B dX16_is_8 (by decide) (fun cn8 => ?_) (fun cn8 => ?_)
  · have h := of cn8 h
    refine r_iconst (v := 0) B dX16_is_15 (by decide) ?_
    cases h
    exact r_ret (r_zret B dX16_is_16 (by decide) rfl)
  · have h := ot cn8 h
    refine r_iconst (v := 1) B dX16_is_11 (by decide) ?_
    refine r_goto (tgt := 16) B dX16_is_12 (by decide) ?_
    cases h
    exact r_ret (r_zret B dX16_is_16 (by decide) rfl)
set_option maxHeartbeats 4000000 in
theorem cw_X16_is {FR LO : Nat} {X : CX} {fr lo : Nat} (h1 : Nat.ble (FR + 1) fr = true) (h2 : Nat.ble (21 + LO) lo = true) : CW X fr lo yX16_is cX16_is 2 (some .boolean) FR LO 1 := ⟨q638, q152, ⟨by decide +kernel, by decide +kernel, by decide +kernel⟩, Nat.le_of_ble_eq_true h1, Nat.le_of_ble_eq_true h2⟩

set_option maxHeartbeats 4000000 in
noncomputable def F_X17_is_2 (recT : St → Nat → Option Nat → Option ((Int32 ⊕ Nat) × St)) : Nat → St → Option Nat → Option Nat → Int32 → Option ((Int32 ⊕ Nat) × St)
  | 0 => fun _ _ _ _ => none
  | n + 1 => fun s x0 x1 x2 => drf x0 fun a1 => gd (isK s a1 14) <| drf (sr s a1 1) fun a4 => gd (isK s a4 18) <| bnd (F_J2_size s a4) fun r7 s8 => if r7 ≤ x2 then (drf x0 fun a11 => gd (isK s8 a11 14) <| gd (fits .boolean (.int (si s8 a11 0))) <| some (.inl (si s8 a11 0), s8)) else (drf x0 fun a15 => gd (isK s8 a15 14) <| drf (sr s8 a15 1) fun a18 => gd (isK s8 a18 18) <| bnd (F_J2_get s8 a18 x2) fun r21 s22 => drf r21 fun a24 => gd (isTs s22 a24) <| drf r21 fun a27 => bnx (recT s22 a27 x1) (fun b32 s30 => some (.inr b32, s30)) <| fun r29 s30 => drf x0 fun a33 => gd (isK s30 a33 14) <| if r29 = (si s30 a33 0) then (F_X17_is_2 recT n s30 x0 x1 (x2 + (1))) else (drf x0 fun a37 => gd (isK s30 a37 14) <| if (si s30 a37 0) = 0 then (some (.inl (1 : Int32), s30)) else (some (.inl (0 : Int32), s30))))
set_option maxHeartbeats 4000000 in
theorem w_X17_is_2 {X : CX} {E : EV} {a0 s' : St} {r : (Int32 ⊕ Nat)} {recT : St → Nat → Option Nat → Option ((Int32 ⊕ Nat) × St)} {FR LO : Nat} (B : FX X E cX17_is 3 (some .boolean) "RoseThrow$Several" "is" (sn a0) (ss a0) FR LO) (ht : ∀ x ∈ (xC X).exceptionTable.toList, False) (h0 : ∀ σ, eSk E σ) (hr : ∀ {s s' : St} {a : Nat} {p : Option Nat} {r : Int32 ⊕ Nat}, recT s a p = some (r, s') → DSP (xL X) E ⟨"RoseThrow$Test", "is", "(LRoseThrow$Setting;)Z"⟩ FR LO [vr p] a s (oX (fun v => some (vi v)) 3 r) s') (hF : 100 ≤ FR) (hL : 9000 ≤ LO) : ∀ (n : Nat) (s : St) (x0 : Option Nat) (x1 : Option Nat) (x2 : Int32), F_X17_is_2 recT  n s x0 x1 x2 = some (r, s') → J X E (sn a0) (ss a0) 3 (QZ X E a0 (oX (fun v => some (vi v)) 3 r) s') s 2 [(0, vr x0), (1, vr x1), (2, vi x2)] [] := by
  intro n
  induction n with
  | zero => intro s x0 x1 x2 h; exact absurd (show (none : Option ((Int32 ⊕ Nat) × St)) = _ from h) (by simp)
  | succ n ih =>
    intro s x0 x1 x2 h
    rw [F_X17_is_2] at h
    refine r_iload_n (j := 2) B dX17_is_2 rfl rfl ?_
    refine r_aload_n (j := 0) B dX17_is_3 rfl rfl ?_
    obtain ⟨a1, ea2, h⟩ := drf_e h
    obtain ⟨hg3, h⟩ := gd_e h
    refine g14 (k := 1) B (vr (sr s a1 1)) ea2 (fun _ => isK_e hg3) rfl q1076 rfl (fun _ => rfl) dX17_is_4 ?_
    obtain ⟨a4, ea5, h⟩ := drf_e h
    obtain ⟨hg6, h⟩ := gd_e h
    obtain ⟨r7, s8, hc9, h⟩ := bnd_e h
    refine r_callVv (As := []) (rest := [vi x2]) B rfl ea5 EX.same (c_J2_size B.ge h0 hc9) (cw_J2_size (Nat.ble_eq.mpr (by omega)) (Nat.ble_eq.mpr (by omega))) (fun z => RV.of 18 ((fun _ => isK_e hg6) z) rfl rfl q606) q642 q605 rfl dX17_is_7 ?_
    refine r_ic_ge (tgt := 54) B dX17_is_10 (by decide) (fun cn10 => ?_) (fun cn10 => ?_)
    · have h := ot cn10 h
      refine r_aload_n (j := 0) B dX17_is_54 rfl rfl ?_
      obtain ⟨a11, ea12, h⟩ := drf_e h
      obtain ⟨hg13, h⟩ := gd_e h
      refine g14 (k := 0) B (vi (si s8 a11 0)) ea12 (fun _ => isK_e hg13) rfl q1075 rfl (fun _ => rfl) dX17_is_55 ?_
      obtain ⟨hg14, h⟩ := gd_e h
      cases h
      exact r_ret (r_zret B dX17_is_58 hg14 rfl)
    · have h := of cn10 h
      refine r_aload_n (j := 0) B dX17_is_13 rfl rfl ?_
      obtain ⟨a15, ea16, h⟩ := drf_e h
      obtain ⟨hg17, h⟩ := gd_e h
      refine g14 (k := 1) B (vr (sr s8 a15 1)) ea16 (fun _ => isK_e hg17) rfl q1076 rfl (fun _ => rfl) dX17_is_14 ?_
      refine r_iload_n (j := 2) B dX17_is_17 rfl rfl ?_
      obtain ⟨a18, ea19, h⟩ := drf_e h
      obtain ⟨hg20, h⟩ := gd_e h
      obtain ⟨r21, s22, hc23, h⟩ := bnd_e h
      refine r_callVv (As := [vi x2]) (rest := []) B rfl ea19 EX.same (c_J2_get B.ge h0 hc23) (cw_J2_get (Nat.ble_eq.mpr (by omega)) (Nat.ble_eq.mpr (by omega))) (fun z => RV.of 18 ((fun _ => isK_e hg20) z) rfl rfl q586) q643 q585 rfl dX17_is_18 ?_
      obtain ⟨a24, ea25, h⟩ := drf_e h
      obtain ⟨hg26, h⟩ := gd_e h
      refine r_cast B ea25 (fun _ => castT hg26) q644 dX17_is_21 ?_
      refine r_aload_n (j := 1) B dX17_is_24 rfl rfl ?_
      obtain ⟨a27, ea28, h⟩ := drf_e h
      rcases bnx_e h with ⟨b32, s30, hc31, h⟩ | ⟨r29, s30, hc31, h⟩
      · cases h
        refine r_xDx (owner := "RoseThrow$Test") (As := [vr x1]) (rest := []) B rfl ea28 EX.same (hr hc31) (Nat.le_refl _) (Nat.le_refl _) q645 q617 (lw_n q616 rfl) (by decide) rfl dX17_is_25 (fun hk => ?_)
        exact r_out B ht hk rfl (by decide) rfl
      refine r_xDn (owner := "RoseThrow$Test") (As := [vr x1]) (rest := []) B rfl ea28 EX.same (hr hc31) (Nat.le_refl _) (Nat.le_refl _) q645 q617 (lw_n q616 rfl) (by decide) rfl dX17_is_25 ?_
      refine r_aload_n (j := 0) B dX17_is_28 rfl rfl ?_
      obtain ⟨a33, ea34, h⟩ := drf_e h
      obtain ⟨hg35, h⟩ := gd_e h
      refine g14 (k := 0) B (vi (si s30 a33 0)) ea34 (fun _ => isK_e hg35) rfl q1075 rfl (fun _ => rfl) dX17_is_29 ?_
      refine r_ic_eq (tgt := 48) B dX17_is_32 (by decide) (fun cn36 => ?_) (fun cn36 => ?_)
      · have h := ot cn36 h
        refine r_iinc (j := 2) (v := (x2 + (1))) (L' := [(0, vr x0), (1, vr x1), (2, vi (x2 + (1)))]) B dX17_is_48 rfl rfl (by decide) rfl rfl rfl ?_
        refine r_goto (tgt := 2) B dX17_is_51 (by decide) ?_
        exact ih s30 x0 x1 (x2 + (1)) h
      · have h := of cn36 h
        refine r_aload_n (j := 0) B dX17_is_35 rfl rfl ?_
        obtain ⟨a37, ea38, h⟩ := drf_e h
        obtain ⟨hg39, h⟩ := gd_e h
        refine g14 (k := 0) B (vi (si s30 a37 0)) ea38 (fun _ => isK_e hg39) rfl q1075 rfl (fun _ => rfl) dX17_is_36 ?_
        refine r_if_ne (tgt := 46) B dX17_is_39 (by decide) (fun cn40 => ?_) (fun cn40 => ?_)
        · have h := of cn40 h
          refine r_iconst (v := 0) B dX17_is_46 (by decide) ?_
          cases h
          exact r_ret (r_zret B dX17_is_47 (by decide) rfl)
        · have h := ot cn40 h
          refine r_iconst (v := 1) B dX17_is_42 (by decide) ?_
          refine r_goto (tgt := 47) B dX17_is_43 (by decide) ?_
          cases h
          exact r_ret (r_zret B dX17_is_47 (by decide) rfl)
set_option maxHeartbeats 4000000 in
noncomputable def F_X17_is (recT : St → Nat → Option Nat → Option ((Int32 ⊕ Nat) × St)) (s : St) (this : Nat) (p0 : Option Nat) : Option ((Int32 ⊕ Nat) × St) := F_X17_is_2 recT FU s (some this) p0 (0 : Int32)
set_option maxHeartbeats 4000000 in
theorem c_X17_is {l : Launch} {E : EV} (hE : GE E) (h0 : ∀ σ, eSk E σ) {recT : St → Nat → Option Nat → Option ((Int32 ⊕ Nat) × St)} {FR LO : Nat} (hr : ∀ {s s' : St} {a : Nat} {p : Option Nat} {r : Int32 ⊕ Nat}, recT s a p = some (r, s') → DSP l E ⟨"RoseThrow$Test", "is", "(LRoseThrow$Setting;)Z"⟩ FR LO [vr p] a s (oX (fun v => some (vi v)) 3 r) s') (hF : 100 ≤ FR) (hL : 9000 ≤ LO) {s s' : St} {r : (Int32 ⊕ Nat)} {this : Nat} {p0 : Option Nat} (h : F_X17_is recT s this p0 = some (r, s')) : CTX l E yX17_is cX17_is 3 (some .boolean) FR LO [vr (some this), vr p0] s (oX (fun v => some (vi v)) 3 r) s' := by
  refine CTX.start hE (by decide) rfl [(0, vr (some this)), (1, vr p0)] rfl (fun X hX B ht => ?_)
  subst hX
  have B : FX X E cX17_is 3 (some .boolean) "RoseThrow$Several" "is" (sn s) (ss s) FR LO := B
  unfold F_X17_is at h
  refine r_iconst (v := 0) B dX17_is_0 (by decide) ?_
  refine r_istore_n (L' := [(0, vr (some this)), (1, vr p0), (2, vi (0 : Int32))]) B dX17_is_1 rfl (by decide) rfl rfl rfl ?_
  exact w_X17_is_2 B ht h0 hr hF hL FU s (some this) p0 (0 : Int32) h
set_option maxHeartbeats 4000000 in
theorem cw_X17_is {FR LO : Nat} {X : CX} {fr lo : Nat} (h1 : Nat.ble (FR + 1) fr = true) (h2 : Nat.ble (22 + LO) lo = true) : CW X fr lo yX17_is cX17_is 3 (some .boolean) FR LO 1 := ⟨q641, q153, ⟨by decide +kernel, by decide +kernel, by decide +kernel⟩, Nat.le_of_ble_eq_true h1, Nat.le_of_ble_eq_true h2⟩

noncomputable def F_testD : Nat → St → Nat → Option Nat → Option ((Int32 ⊕ Nat) × St)
  | 0 => fun _ _ _ => none
  | d + 1 => fun s a p => if isK s a 12 = true then F_X15_is s a p else if isK s a 13 = true then F_X16_is (F_testD d) s a p else if isK s a 14 = true then F_X17_is (F_testD d) s a p else none
theorem d_test {l : Launch} {E : EV} (hE : GE E) (h0 : ∀ σ, eSk E σ) : ∀ (d : Nat) (s : St) (a : Nat) (p : Option Nat) (r : Int32 ⊕ Nat) (s' : St), F_testD d s a p = some (r, s') → DSP l E (⟨"RoseThrow$Test", "is", "(LRoseThrow$Setting;)Z"⟩ : MethodName) (200 + d) (12000 + 40 * d) [vr p] a s (oX (fun v => some (vi v)) 3 r) s' := by
  intro d
  induction d with
  | zero => intro s a p r s' h; cases h
  | succ d ih =>
    intro s a p r s' h
    rw [F_testD] at h
    by_cases hk : isK s a 12 = true
    · have h := ot hk h
      exact ⟨yX15_is, cX15_is, 6, _, _, _, (RV.of 12 (isK_e hk) rfl rfl q618), q619, c_X15_is hE h0 h, ⟨q620, q151, ⟨by decide +kernel, by decide +kernel, show Option.map (fun d => d.parameters.length) (parseMethodDescriptor yX15_is.desc) = some 1 from by decide +kernel⟩⟩, by omega, by omega, rfl⟩
    have h := of hk h
    by_cases hk : isK s a 13 = true
    · have h := ot hk h
      exact ⟨yX16_is, cX16_is, 2, _, _, _, (RV.of 13 (isK_e hk) rfl rfl q636), q637, c_X16_is hE h0 (FR := (200 + d)) (LO := (12000 + 40 * d)) (fun {_ _ _ _ _} h => ih _ _ _ _ _ h) (by omega) (by omega) h, ⟨q638, q152, ⟨by decide +kernel, by decide +kernel, show Option.map (fun d => d.parameters.length) (parseMethodDescriptor yX16_is.desc) = some 1 from by decide +kernel⟩⟩, by omega, by omega, rfl⟩
    have h := of hk h
    by_cases hk : isK s a 14 = true
    · have h := ot hk h
      exact ⟨yX17_is, cX17_is, 3, _, _, _, (RV.of 14 (isK_e hk) rfl rfl q646), q640, c_X17_is hE h0 (FR := (200 + d)) (LO := (12000 + 40 * d)) (fun {_ _ _ _ _} h => ih _ _ _ _ _ h) (by omega) (by omega) h, ⟨q641, q153, ⟨by decide +kernel, by decide +kernel, show Option.map (fun d => d.parameters.length) (parseMethodDescriptor yX17_is.desc) = some 1 from by decide +kernel⟩⟩, by omega, by omega, rfl⟩
    have h := of hk h
    cases h

set_option maxHeartbeats 4000000 in
noncomputable def F_X9_tells_42 (s : St) (z0 : Option Nat) : Option (Int64 × St) := some ((-4000000000 : Int64), s)
set_option maxHeartbeats 4000000 in
theorem w_X9_tells_42 {X : CX} {E : EV} {a0 s' : St} {r : Int64} (B : FX X E cX9_tells 3 (some .long) "RoseThrow$Clause" "tells" (sn a0) (ss a0) 240 13600) (ht : (xC X).exceptionTable.toList = tableOf [(0, 21, 42, 37), (22, 41, 42, 37)]) (h0 : ∀ σ, eSk E σ) (s : St) (z0 : Option Nat) (h : F_X9_tells_42   s z0 = some (r, s')) : J X E (sn a0) (ss a0) 3 (QR X E a0 (some (vl r)) s') s 42 [] [vr z0] := by
  unfold F_X9_tells_42 at h
  refine r_astore_n (L' := [(2, vr z0)]) B dX9_tells_42 rfl (by decide) rfl rfl rfl ?_
  refine r_ldc2 B dX9_tells_43 q647 ?_
  exact r_lret B dX9_tells_46 h
set_option maxHeartbeats 4000000 in
noncomputable def F_X9_tells_22 (s : St) (x0 : Option Nat) (x1 : Option Nat) : Option (Int64 × St) := drf x0 fun a1 => gd (isK s a1 8) <| if (sr s a1 1) = none then (some ((1 : Int64), s)) else (drf x0 fun a5 => gd (isK s a5 8) <| drf (sr s a5 1) fun a8 => bnx (F_sumD 64 s a8 x1) (fun b13 s11 => F_X9_tells_42 s11 (some b13)) <| fun r10 s11 => some (r10, s11))
set_option maxHeartbeats 4000000 in
theorem w_X9_tells_22 {X : CX} {E : EV} {a0 s' : St} {r : Int64} (B : FX X E cX9_tells 3 (some .long) "RoseThrow$Clause" "tells" (sn a0) (ss a0) 240 13600) (ht : (xC X).exceptionTable.toList = tableOf [(0, 21, 42, 37), (22, 41, 42, 37)]) (h0 : ∀ σ, eSk E σ) (s : St) (x0 : Option Nat) (x1 : Option Nat) (h : F_X9_tells_22   s x0 x1 = some (r, s')) : J X E (sn a0) (ss a0) 3 (QR X E a0 (some (vl r)) s') s 22 [(0, vr x0), (1, vr x1)] [] := by
  unfold F_X9_tells_22 at h
  refine r_aload_n (j := 0) B dX9_tells_22 rfl rfl ?_
  obtain ⟨a1, ea2, h⟩ := drf_e h
  obtain ⟨hg3, h⟩ := gd_e h
  refine g8 (k := 1) B (vr (sr s a1 1)) ea2 (fun _ => isK_e hg3) rfl q853 rfl (fun _ => rfl) dX9_tells_23 ?_
  refine r_ifnonnull (tgt := 33) B dX9_tells_26 (by decide) (fun cn4 => ?_) (fun cn4 => ?_)
  · have h := of cn4 h
    refine r_aload_n (j := 0) B dX9_tells_33 rfl rfl ?_
    obtain ⟨a5, ea6, h⟩ := drf_e h
    obtain ⟨hg7, h⟩ := gd_e h
    refine g8 (k := 1) B (vr (sr s a5 1)) ea6 (fun _ => isK_e hg7) rfl q853 rfl (fun _ => rfl) dX9_tells_34 ?_
    refine r_aload_n (j := 1) B dX9_tells_37 rfl rfl ?_
    obtain ⟨a8, ea9, h⟩ := drf_e h
    rcases bnx_e h with ⟨b13, s11, hc12, h⟩ | ⟨r10, s11, hc12, h⟩
    · refine r_xDx (owner := "RoseThrow$Sum") (As := [vr x1]) (rest := []) B rfl ea9 EX.same (d_sum B.ge h0 64 _ _ _ _ _ hc12) (by decide) (by decide) q648 q623 (lw_n q622 rfl) (by decide) rfl dX9_tells_38 (fun hk => ?_)
      refine r_catch B ht [(⟨0, 21, 42, 37⟩ : ExceptionTableEntry)] (⟨22, 41, 42, 37⟩ : ExceptionTableEntry) [] rfl (fun z hz => by rw [List.mem_singleton.mp hz]; decide) (by decide) (by decide) hk rfl (by decide) q614 (lw_n q259 rfl) ?_
      refine r_pick [] (L' := []) rfl ?_
      exact w_X9_tells_42 B ht h0 s11 (some b13) h
    refine r_xDn (owner := "RoseThrow$Sum") (As := [vr x1]) (rest := []) B rfl ea9 EX.same (d_sum B.ge h0 64 _ _ _ _ _ hc12) (by decide) (by decide) q648 q623 (lw_n q622 rfl) (by decide) rfl dX9_tells_38 ?_
    exact r_lret B dX9_tells_41 h
  · have h := ot cn4 h
    refine r_lconst (v := 1) B dX9_tells_29 (by decide) ?_
    refine r_goto (tgt := 41) B dX9_tells_30 (by decide) ?_
    exact r_lret B dX9_tells_41 h
set_option maxHeartbeats 4000000 in
noncomputable def F_X9_tells (s : St) (this : Nat) (p0 : Option Nat) : Option (Int64 × St) := gd (isK s this 8) <| if (sr s this 2) = none then (F_X9_tells_22 s (some this) p0) else (gd (isK s this 8) <| drf (sr s this 2) fun a4 => bnx (F_testD 40 s a4 p0) (fun b9 s7 => F_X9_tells_42 s7 (some b9)) <| fun r6 s7 => if r6 = 0 then (some ((-4000000000 : Int64), s7)) else (F_X9_tells_22 s7 (some this) p0))
set_option maxHeartbeats 4000000 in
theorem c_X9_tells {l : Launch} {E : EV} (hE : GE E) (h0 : ∀ σ, eSk E σ) {s s' : St} {r : Int64} {this : Nat} {p0 : Option Nat} (h : F_X9_tells  s this p0 = some (r, s')) : CTW l E yX9_tells cX9_tells 3 (some .long) [(0, 21, 42, 37), (22, 41, 42, 37)] 240 13600 [vr (some this), vr p0] s (some (vl r)) s' := by
  refine CT.startW hE (by decide) rfl [(0, vr (some this)), (1, vr p0)] rfl (fun X hX B ht => ?_)
  skip
  have B : FX X E cX9_tells 3 (some .long) "RoseThrow$Clause" "tells" (sn s) (ss s) 240 13600 := B
  unfold F_X9_tells at h
  refine r_aload_n (j := 0) B dX9_tells_0 rfl rfl ?_
  obtain ⟨hg1, h⟩ := gd_e h
  refine g8 (k := 2) B (vr (sr s this 2)) rfl (fun _ => isK_e hg1) rfl q855 rfl (fun _ => rfl) dX9_tells_1 ?_
  refine r_ifnull (tgt := 22) B dX9_tells_4 (by decide) (fun cn2 => ?_) (fun cn2 => ?_)
  · have h := ot cn2 h
    exact w_X9_tells_22 B ht h0 s (some this) p0 h
  · have h := of cn2 h
    refine r_aload_n (j := 0) B dX9_tells_7 rfl rfl ?_
    obtain ⟨hg3, h⟩ := gd_e h
    refine g8 (k := 2) B (vr (sr s this 2)) rfl (fun _ => isK_e hg3) rfl q855 rfl (fun _ => rfl) dX9_tells_8 ?_
    refine r_aload_n (j := 1) B dX9_tells_11 rfl rfl ?_
    obtain ⟨a4, ea5, h⟩ := drf_e h
    rcases bnx_e h with ⟨b9, s7, hc8, h⟩ | ⟨r6, s7, hc8, h⟩
    · refine r_xDx (owner := "RoseThrow$Test") (As := [vr p0]) (rest := []) B rfl ea5 EX.same (d_test B.ge h0 40 _ _ _ _ _ hc8) (by decide) (by decide) q615 q617 (lw_n q616 rfl) (by decide) rfl dX9_tells_12 (fun hk => ?_)
      refine r_catch B ht [] (⟨0, 21, 42, 37⟩ : ExceptionTableEntry) [(⟨22, 41, 42, 37⟩ : ExceptionTableEntry)] rfl (fun z hz => by cases hz) (by decide) (by decide) hk rfl (by decide) q614 (lw_n q259 rfl) ?_
      refine r_pick [] (L' := []) rfl ?_
      exact w_X9_tells_42 B ht h0 s7 (some b9) h
    refine r_xDn (owner := "RoseThrow$Test") (As := [vr p0]) (rest := []) B rfl ea5 EX.same (d_test B.ge h0 40 _ _ _ _ _ hc8) (by decide) (by decide) q615 q617 (lw_n q616 rfl) (by decide) rfl dX9_tells_12 ?_
    refine r_if_ne (tgt := 22) B dX9_tells_15 (by decide) (fun cn10 => ?_) (fun cn10 => ?_)
    · have h := of cn10 h
      exact w_X9_tells_22 B ht h0 s7 (some this) p0 h
    · have h := ot cn10 h
      refine r_ldc2 B dX9_tells_18 q647 ?_
      exact r_lret B dX9_tells_21 h
set_option maxHeartbeats 4000000 in
theorem cw_X9_tells {X : CX} {fr lo : Nat} (h1 : Nat.ble (240 + 1) fr = true) (h2 : Nat.ble (22 + 13600) lo = true) : CWW X fr lo yX9_tells cX9_tells 3 (some .long) [(0, 21, 42, 37), (22, 41, 42, 37)] 240 13600 1 := ⟨q613, q145, ⟨by decide +kernel, by decide +kernel, by decide +kernel⟩, Nat.le_of_ble_eq_true h1, Nat.le_of_ble_eq_true h2⟩

set_option maxHeartbeats 4000000 in
noncomputable def F_X19_told_7 : Nat → St → Option Nat → Int32 → Option Nat → Int64 → Int32 → Option (Int64 × St)
  | 0 => fun _ _ _ _ _ _ => none
  | n + 1 => fun s x0 x1 x2 x3 x5 => drf x0 fun a1 => gd (isK s a1 16) <| drf (sr s a1 0) fun a4 => gd (isK s a4 18) <| bnd (F_J2_size s a4) fun r7 s8 => if r7 ≤ x5 then (some (x3, s8)) else (drf x0 fun a11 => gd (isK s8 a11 16) <| drf (sr s8 a11 0) fun a14 => gd (isK s8 a14 18) <| bnd (F_J2_get s8 a14 x5) fun r17 s18 => drf r17 fun a20 => gd (isK s18 a20 8) <| drf r17 fun a23 => gd (isK s18 a23 8) <| if (si s18 a23 0) = x1 then (drf x0 fun a27 => gd (isK s18 a27 16) <| drf (sr s18 a27 0) fun a30 => gd (isK s18 a30 18) <| bnd (F_J2_get s18 a30 x5) fun r33 s34 => drf r33 fun a36 => gd (isK s34 a36 8) <| drf r33 fun a39 => gd (isK s34 a39 8) <| bnd (F_X9_tells s34 a39 x2) fun r42 s43 => if r42 = (-4000000000 : Int64) then (F_X19_told_7  n s43 x0 x1 x2 x3 (x5 + (1))) else (F_X19_told_7  n s43 x0 x1 x2 r42 (x5 + (1)))) else (F_X19_told_7  n s18 x0 x1 x2 x3 (x5 + (1))))
set_option maxHeartbeats 4000000 in
theorem w_X19_told_7 {X : CX} {E : EV} {a0 s' : St} {r : Int64} (B : FX X E cX19_told 8 (some .long) "RoseThrow$Law" "told" (sn a0) (ss a0) 241 13622) (h0 : ∀ σ, eSk E σ) : ∀ (n : Nat) (s : St) (x0 : Option Nat) (x1 : Int32) (x2 : Option Nat) (x3 : Int64) (x5 : Int32), F_X19_told_7   n s x0 x1 x2 x3 x5 = some (r, s') → J X E (sn a0) (ss a0) 8 (QR X E a0 (some (vl r)) s') s 7 [(0, vr x0), (1, vi x1), (2, vr x2), (3, vl x3), (5, vi x5)] [] := by
  intro n
  induction n with
  | zero => intro s x0 x1 x2 x3 x5 h; exact absurd (show (none : Option (Int64 × St)) = _ from h) (by simp)
  | succ n ih =>
    intro s x0 x1 x2 x3 x5 h
    rw [F_X19_told_7] at h
    refine r_iload (j := 4) B dX19_told_7 rfl ?_
    refine r_aload_n (j := 0) B dX19_told_9 rfl rfl ?_
    obtain ⟨a1, ea2, h⟩ := drf_e h
    obtain ⟨hg3, h⟩ := gd_e h
    refine g16 (k := 0) B (vr (sr s a1 0)) ea2 (fun _ => isK_e hg3) rfl q1163 rfl (fun _ => rfl) dX19_told_10 ?_
    obtain ⟨a4, ea5, h⟩ := drf_e h
    obtain ⟨hg6, h⟩ := gd_e h
    obtain ⟨r7, s8, hc9, h⟩ := bnd_e h
    refine r_callVv (As := []) (rest := [vi x5]) B rfl ea5 EX.same (c_J2_size B.ge h0 hc9) (cw_J2_size rfl rfl) (fun z => RV.of 18 ((fun _ => isK_e hg6) z) rfl rfl q606) q604 q605 rfl dX19_told_13 ?_
    refine r_ic_ge (tgt := 77) B dX19_told_16 (by decide) (fun cn10 => ?_) (fun cn10 => ?_)
    · have h := ot cn10 h
      refine r_lload_n (j := 3) B dX19_told_77 rfl rfl ?_
      exact r_lret B dX19_told_78 h
    · have h := of cn10 h
      refine r_aload_n (j := 0) B dX19_told_19 rfl rfl ?_
      obtain ⟨a11, ea12, h⟩ := drf_e h
      obtain ⟨hg13, h⟩ := gd_e h
      refine g16 (k := 0) B (vr (sr s8 a11 0)) ea12 (fun _ => isK_e hg13) rfl q1163 rfl (fun _ => rfl) dX19_told_20 ?_
      refine r_iload (j := 4) B dX19_told_23 rfl ?_
      obtain ⟨a14, ea15, h⟩ := drf_e h
      obtain ⟨hg16, h⟩ := gd_e h
      obtain ⟨r17, s18, hc19, h⟩ := bnd_e h
      refine r_callVv (As := [vi x5]) (rest := []) B rfl ea15 EX.same (c_J2_get B.ge h0 hc19) (cw_J2_get rfl rfl) (fun z => RV.of 18 ((fun _ => isK_e hg16) z) rfl rfl q586) q608 q585 rfl dX19_told_25 ?_
      obtain ⟨a20, ea21, h⟩ := drf_e h
      obtain ⟨hg22, h⟩ := gd_e h
      refine r_castS B ea21 (fun _ => isK_e hg22) (by decide) rfl q609 dX19_told_28 ?_
      obtain ⟨a23, ea24, h⟩ := drf_e h
      obtain ⟨hg25, h⟩ := gd_e h
      refine g8N (k := 0) B (vi (si s18 a23 0)) ea24 (fun _ => isK_e hg25) rfl (lw_n q852 rfl) rfl (fun _ => rfl) dX19_told_31 ?_
      refine r_iload_n (j := 1) B dX19_told_34 rfl rfl ?_
      refine r_ic_eq (tgt := 41) B dX19_told_35 (by decide) (fun cn26 => ?_) (fun cn26 => ?_)
      · have h := ot cn26 h
        refine r_aload_n (j := 0) B dX19_told_41 rfl rfl ?_
        obtain ⟨a27, ea28, h⟩ := drf_e h
        obtain ⟨hg29, h⟩ := gd_e h
        refine g16 (k := 0) B (vr (sr s18 a27 0)) ea28 (fun _ => isK_e hg29) rfl q1163 rfl (fun _ => rfl) dX19_told_42 ?_
        refine r_iload (j := 4) B dX19_told_45 rfl ?_
        obtain ⟨a30, ea31, h⟩ := drf_e h
        obtain ⟨hg32, h⟩ := gd_e h
        obtain ⟨r33, s34, hc35, h⟩ := bnd_e h
        refine r_callVv (As := [vi x5]) (rest := []) B rfl ea31 EX.same (c_J2_get B.ge h0 hc35) (cw_J2_get rfl rfl) (fun z => RV.of 18 ((fun _ => isK_e hg32) z) rfl rfl q586) q608 q585 rfl dX19_told_47 ?_
        obtain ⟨a36, ea37, h⟩ := drf_e h
        obtain ⟨hg38, h⟩ := gd_e h
        refine r_castS B ea37 (fun _ => isK_e hg38) (by decide) rfl q609 dX19_told_50 ?_
        refine r_aload_n (j := 2) B dX19_told_53 rfl rfl ?_
        obtain ⟨a39, ea40, h⟩ := drf_e h
        obtain ⟨hg41, h⟩ := gd_e h
        obtain ⟨r42, s43, hc44, h⟩ := bnd_e h
        refine r_callVW (As := [vr x2]) (rest := []) B rfl ea40 EX.same (c_X9_tells B.ge h0 hc44) (cw_X9_tells rfl rfl) (fun z => RV.of 8 ((fun _ => isK_e hg41) z) rfl rfl q612) q610 q611 rfl dX19_told_54 ?_
        refine r_lstore (L' := [(0, vr x0), (1, vi x1), (2, vr x2), (3, vl x3), (5, vi x5), (6, vl r42)]) B dX19_told_57 (by decide) rfl rfl rfl ?_
        refine r_lload (j := 5) B dX19_told_59 rfl ?_
        refine r_ldc2 B dX19_told_61 q603 ?_
        refine r_lcmp B dX19_told_64 ?_
        refine r_if_eq (tgt := 71) B dX19_told_65 (by decide) (fun cn45 => ?_) (fun cn45 => ?_)
        · have h := ot (lc_eq.mp cn45) h
          refine r_iinc (j := 4) (v := (x5 + (1))) (L' := [(0, vr x0), (1, vi x1), (2, vr x2), (3, vl x3), (5, vi (x5 + (1))), (6, vl r42)]) B dX19_told_71 rfl rfl (by decide) rfl rfl rfl ?_
          refine r_goto (tgt := 7) B dX19_told_74 (by decide) ?_
          refine r_pick [0, 1, 2, 3, 4] (L' := [(0, vr x0), (1, vi x1), (2, vr x2), (3, vl x3), (5, vi (x5 + (1)))]) rfl ?_
          exact ih s43 x0 x1 x2 x3 (x5 + (1)) h
        · have h := of (fun z => cn45 (lc_eq.mpr z)) h
          refine r_lload (j := 5) B dX19_told_68 rfl ?_
          refine r_lstore_n (L' := [(0, vr x0), (1, vi x1), (2, vr x2), (3, vl r42), (5, vi x5), (6, vl r42)]) B dX19_told_70 rfl (by decide) rfl rfl rfl ?_
          refine r_iinc (j := 4) (v := (x5 + (1))) (L' := [(0, vr x0), (1, vi x1), (2, vr x2), (3, vl r42), (5, vi (x5 + (1))), (6, vl r42)]) B dX19_told_71 rfl rfl (by decide) rfl rfl rfl ?_
          refine r_goto (tgt := 7) B dX19_told_74 (by decide) ?_
          refine r_pick [0, 1, 2, 3, 4] (L' := [(0, vr x0), (1, vi x1), (2, vr x2), (3, vl r42), (5, vi (x5 + (1)))]) rfl ?_
          exact ih s43 x0 x1 x2 r42 (x5 + (1)) h
      · have h := of cn26 h
        refine r_goto (tgt := 71) B dX19_told_38 (by decide) ?_
        refine r_iinc (j := 4) (v := (x5 + (1))) (L' := [(0, vr x0), (1, vi x1), (2, vr x2), (3, vl x3), (5, vi (x5 + (1)))]) B dX19_told_71 rfl rfl (by decide) rfl rfl rfl ?_
        refine r_goto (tgt := 7) B dX19_told_74 (by decide) ?_
        exact ih s18 x0 x1 x2 x3 (x5 + (1)) h
set_option maxHeartbeats 4000000 in
noncomputable def F_X19_told (s : St) (this : Nat) (p0 : Int32) (p1 : Option Nat) : Option (Int64 × St) := F_X19_told_7 FU s (some this) p0 p1 (-4000000000 : Int64) (0 : Int32)
set_option maxHeartbeats 4000000 in
theorem c_X19_told {l : Launch} {E : EV} (hE : GE E) (h0 : ∀ σ, eSk E σ) {s s' : St} {r : Int64} {this : Nat} {p0 : Int32} {p1 : Option Nat} (h : F_X19_told  s this p0 p1 = some (r, s')) : CT l E yX19_told cX19_told 8 (some .long) 241 13622 [vr (some this), vi p0, vr p1] s (some (vl r)) s' := by
  refine CT.start hE (by decide) rfl [(0, vr (some this)), (1, vi p0), (2, vr p1)] rfl (fun X hX B => ?_)
  skip
  have B : FX X E cX19_told 8 (some .long) "RoseThrow$Law" "told" (sn s) (ss s) 241 13622 := B
  unfold F_X19_told at h
  refine r_ldc2 B dX19_told_0 q603 ?_
  refine r_lstore_n (L' := [(0, vr (some this)), (1, vi p0), (2, vr p1), (3, vl (-4000000000 : Int64))]) B dX19_told_3 rfl (by decide) rfl rfl rfl ?_
  refine r_iconst (v := 0) B dX19_told_4 (by decide) ?_
  refine r_istore (L' := [(0, vr (some this)), (1, vi p0), (2, vr p1), (3, vl (-4000000000 : Int64)), (5, vi (0 : Int32))]) B dX19_told_5 (by decide) rfl rfl rfl ?_
  exact w_X19_told_7 B h0 FU s (some this) p0 p1 (-4000000000 : Int64) (0 : Int32) h
set_option maxHeartbeats 4000000 in
theorem cw_X19_told {X : CX} {fr lo : Nat} (h1 : Nat.ble (241 + 1) fr = true) (h2 : Nat.ble (27 + 13622) lo = true) : CW X fr lo yX19_told cX19_told 8 (some .long) 241 13622 2 := ⟨q602, q159, ⟨by decide +kernel, by decide +kernel, by decide +kernel⟩, Nat.le_of_ble_eq_true h1, Nat.le_of_ble_eq_true h2⟩

set_option maxHeartbeats 4000000 in
noncomputable def F_X0_says (s : St) (p0 : Int32) : Option (Int64 × St) := bnd (F_J2_get s 10 (si s 2 10)) fun r1 s2 => gp (SkC s2) <| drf r1 fun a5 => gd (isK s2 a5 16) <| drf r1 fun a8 => gd (isK s2 a8 16) <| bnd (F_X19_told s2 a8 p0 (some 20)) fun r11 s12 => gp (SkC s12) <| some (r11, s12)
set_option maxHeartbeats 4000000 in
theorem c_X0_says {l : Launch} {E : EV} (hE : GE E) (hS : ∀ σ, eSk E σ ↔ SkC σ) {s s' : St} {r : Int64} {p0 : Int32} (h : F_X0_says  s p0 = some (r, s')) : CT l E yX0_says cX0_says 2 (some .long) 242 13649 [vr (some 0), vi p0] s (some (vl r)) s' := by
  refine CT.start hE (by decide) rfl [(0, vr (some 0)), (1, vi p0)] rfl (fun X hX B => ?_)
  skip
  have B : FX X E cX0_says 2 (some .long) "RoseThrow" "says" (sn s) (ss s) 242 13649 := B
  unfold F_X0_says at h
  refine r_aload_n (j := 0) B dX0_says_0 rfl rfl ?_
  refine g0 (k := 2) B (vr (some 2)) rfl (fun z => by rw [((hS _).1 z).1 0 (by decide)]; rfl) rfl q358 rfl (fun z => by rw [((hS _).1 z).2 _ (List.mem_of_getElem? (i := 1) rfl)]; rfl) dX0_says_1 ?_
  refine g1N (k := 7) B (vr (some 10)) rfl (fun z => by rw [((hS _).1 z).1 2 (by decide)]; rfl) rfl (lw_n q220 rfl) rfl (fun z => by rw [((hS _).1 z).2 _ (List.mem_of_getElem? (i := 24) rfl)]; rfl) dX0_says_4 ?_
  refine r_aload_n (j := 0) B dX0_says_7 rfl rfl ?_
  refine g0 (k := 2) B (vr (some 2)) rfl (fun z => by rw [((hS _).1 z).1 0 (by decide)]; rfl) rfl q358 rfl (fun z => by rw [((hS _).1 z).2 _ (List.mem_of_getElem? (i := 1) rfl)]; rfl) dX0_says_8 ?_
  refine g1N (k := 10) B (vi (si s 2 10)) rfl (fun z => by rw [((hS _).1 z).1 2 (by decide)]; rfl) rfl (lw_n q226 rfl) rfl (fun _ => rfl) dX0_says_11 ?_
  obtain ⟨r1, s2, hc3, h⟩ := bnd_e h
  obtain ⟨hg4, h⟩ := gp_e h
  refine r_callVv (As := [vi (si s 2 10)]) (rest := []) B rfl rfl (EX.noSk (fun _ => (hS _).2 hg4)) (c_J2_get B.ge.noSk (fun _ => trivial) hc3) (cw_J2_get rfl rfl) (fun z => RV.of 18 ((fun z => by rw [((hS _).1 z).1 10 (by decide)]; rfl) z) rfl rfl q586) q584 q585 rfl dX0_says_14 ?_
  obtain ⟨a5, ea6, h⟩ := drf_e h
  obtain ⟨hg7, h⟩ := gd_e h
  refine r_castS B ea6 (fun _ => isK_e hg7) (by decide) rfl q598 dX0_says_17 ?_
  refine r_iload_n (j := 1) B dX0_says_20 rfl rfl ?_
  refine r_aload_n (j := 0) B dX0_says_21 rfl rfl ?_
  refine g0 (k := 16) B (vr (some 20)) rfl (fun z => by rw [((hS _).1 z).1 0 (by decide)]; rfl) rfl q372 rfl (fun z => by rw [((hS _).1 z).2 _ (List.mem_of_getElem? (i := 10) rfl)]; rfl) dX0_says_22 ?_
  obtain ⟨a8, ea9, h⟩ := drf_e h
  obtain ⟨hg10, h⟩ := gd_e h
  obtain ⟨r11, s12, hc13, h⟩ := bnd_e h
  obtain ⟨hg14, h⟩ := gp_e h
  refine r_callVv (As := [vi p0, vr (some 20)]) (rest := []) B rfl ea9 (EX.noSk (fun _ => (hS _).2 hg14)) (c_X19_told B.ge.noSk (fun _ => trivial) hc13) (cw_X19_told rfl rfl) (fun z => RV.of 16 ((fun _ => isK_e hg10) z) rfl rfl q601) q599 q600 rfl dX0_says_25 ?_
  exact r_lret B dX0_says_28 h
set_option maxHeartbeats 4000000 in
theorem cw_X0_says {X : CX} {fr lo : Nat} (h1 : Nat.ble (242 + 1) fr = true) (h2 : Nat.ble (21 + 13649) lo = true) : CW X fr lo yX0_says cX0_says 2 (some .long) 242 13649 1 := ⟨q583, q126, ⟨by decide +kernel, by decide +kernel, by decide +kernel⟩, Nat.le_of_ble_eq_true h1, Nat.le_of_ble_eq_true h2⟩

set_option maxHeartbeats 4000000 in
noncomputable def F_X0_isBarred (s : St) (p0 : Int32) (p1 : Int32) (p2 : Int32) (p3 : Int32) : Option (Int32 × St) := if (si s 2 10) = (-1 : Int32) then (some ((0 : Int32), s)) else (bnd (F_X0_looksAt s p0 p1 p2) fun _ s3 => gd (inb (11 : Int32) 15) <| nam (setL s3 22 (11 : Int32).toNatClampNeg (((p3 - p3 / (6 : Int32) * (6 : Int32))).toInt64)) fun s6 => gd (inb (12 : Int32) 15) <| nam (setL s6 22 (12 : Int32).toNatClampNeg (((p3 / (6 : Int32))).toInt64)) fun s9 => bnd (F_X0_says s9 (3 : Int32)) fun r11 s12 => if r11 = (-4000000000 : Int64) then (some ((0 : Int32), s12)) else (some ((1 : Int32), s12)))
set_option maxHeartbeats 4000000 in
theorem c_X0_isBarred {l : Launch} {E : EV} (hE : GE E) (hS : ∀ σ, eSk E σ ↔ SkC σ) {s s' : St} {r : Int32} {p0 : Int32} {p1 : Int32} {p2 : Int32} {p3 : Int32} (h : F_X0_isBarred  s p0 p1 p2 p3 = some (r, s')) : CT l E yX0_isBarred cX0_isBarred 5 (some .boolean) 243 13670 [vr (some 0), vi p0, vi p1, vi p2, vi p3] s (some (vi r)) s' := by
  refine CT.start hE (by decide) rfl [(0, vr (some 0)), (1, vi p0), (2, vi p1), (3, vi p2), (4, vi p3)] rfl (fun X hX B => ?_)
  skip
  have B : FX X E cX0_isBarred 5 (some .boolean) "RoseThrow" "isBarred" (sn s) (ss s) 243 13670 := B
  unfold F_X0_isBarred at h
  refine r_aload_n (j := 0) B dX0_isBarred_0 rfl rfl ?_
  refine g0 (k := 2) B (vr (some 2)) rfl (fun z => by rw [((hS _).1 z).1 0 (by decide)]; rfl) rfl q358 rfl (fun z => by rw [((hS _).1 z).2 _ (List.mem_of_getElem? (i := 1) rfl)]; rfl) dX0_isBarred_1 ?_
  refine g1N (k := 10) B (vi (si s 2 10)) rfl (fun z => by rw [((hS _).1 z).1 2 (by decide)]; rfl) rfl (lw_n q226 rfl) rfl (fun _ => rfl) dX0_isBarred_4 ?_
  refine r_iconst (v := -1) B dX0_isBarred_7 (by decide) ?_
  refine r_ic_ne (tgt := 13) B dX0_isBarred_8 (by decide) (fun cn1 => ?_) (fun cn1 => ?_)
  · have h := of cn1 h
    refine r_aload_n (j := 0) B dX0_isBarred_13 rfl rfl ?_
    refine r_iload_n (j := 1) B dX0_isBarred_14 rfl rfl ?_
    refine r_iload_n (j := 2) B dX0_isBarred_15 rfl rfl ?_
    refine r_iload_n (j := 3) B dX0_isBarred_16 rfl rfl ?_
    obtain ⟨r2, s3, hc4, h⟩ := bnd_e h
    refine r_callV0 (As := [vi p0, vi p1, vi p2]) (rest := []) B rfl rfl EX.same (c_X0_looksAt B.ge hS hc4) (cw_X0_looksAt rfl rfl) (fun z => RV.of 0 (by rw [((hS _).1 z).1 0 (by decide)]; rfl) rfl rfl qs8) q567 q569 rfl dX0_isBarred_17 ?_
    refine r_aload_n (j := 0) B dX0_isBarred_20 rfl rfl ?_
    refine g0 (k := 16) B (vr (some 20)) rfl (fun z => by rw [((hS _).1 z).1 0 (by decide)]; rfl) rfl q372 rfl (fun z => by rw [((hS _).1 z).2 _ (List.mem_of_getElem? (i := 10) rfl)]; rfl) dX0_isBarred_21 ?_
    refine g2N (k := 1) B (vr (some 22)) rfl (fun z => by rw [((hS _).1 z).1 20 (by decide)]; rfl) rfl (lw_n q322 rfl) rfl (fun z => by rw [((hS _).1 z).2 _ (List.mem_of_getElem? (i := 26) rfl)]; rfl) dX0_isBarred_24 ?_
    refine r_bipush (v := 11) B dX0_isBarred_27 (by decide) ?_
    refine r_iload (j := 4) B dX0_isBarred_29 rfl ?_
    refine r_bipush (v := 6) B dX0_isBarred_31 (by decide) ?_
    refine r_irem B dX0_isBarred_33 (by decide) ?_
    refine r_i2l B dX0_isBarred_34 ?_
    obtain ⟨hg5, h⟩ := gd_e h
    obtain ⟨s6, e7, h⟩ := nam_e h
    refine r_last B e7 rfl (fun z => ((hS _).1 z).1 22 (by decide)) hg5 dX0_isBarred_35 ?_
    refine r_aload_n (j := 0) B dX0_isBarred_36 rfl rfl ?_
    refine g0 (k := 16) B (vr (some 20)) rfl (fun z => by rw [((hS _).1 z).1 0 (by decide)]; rfl) rfl q372 rfl (fun z => by rw [((hS _).1 z).2 _ (List.mem_of_getElem? (i := 10) rfl)]; rfl) dX0_isBarred_37 ?_
    refine g2N (k := 1) B (vr (some 22)) rfl (fun z => by rw [((hS _).1 z).1 20 (by decide)]; rfl) rfl (lw_n q322 rfl) rfl (fun z => by rw [((hS _).1 z).2 _ (List.mem_of_getElem? (i := 26) rfl)]; rfl) dX0_isBarred_40 ?_
    refine r_bipush (v := 12) B dX0_isBarred_43 (by decide) ?_
    refine r_iload (j := 4) B dX0_isBarred_45 rfl ?_
    refine r_bipush (v := 6) B dX0_isBarred_47 (by decide) ?_
    refine r_idiv B dX0_isBarred_49 (by decide) ?_
    refine r_i2l B dX0_isBarred_50 ?_
    obtain ⟨hg8, h⟩ := gd_e h
    obtain ⟨s9, e10, h⟩ := nam_e h
    refine r_last B e10 rfl (fun z => ((hS _).1 z).1 22 (by decide)) hg8 dX0_isBarred_51 ?_
    refine r_aload_n (j := 0) B dX0_isBarred_52 rfl rfl ?_
    refine r_iconst (v := 3) B dX0_isBarred_53 (by decide) ?_
    obtain ⟨r11, s12, hc13, h⟩ := bnd_e h
    refine r_callVv (As := [vi (3 : Int32)]) (rest := []) B rfl rfl EX.same (c_X0_says B.ge hS hc13) (cw_X0_says rfl rfl) (fun z => RV.of 0 (by rw [((hS _).1 z).1 0 (by decide)]; rfl) rfl rfl qs11) q580 q582 rfl dX0_isBarred_54 ?_
    refine r_ldc2 B dX0_isBarred_57 q649 ?_
    refine r_lcmp B dX0_isBarred_60 ?_
    refine r_if_eq (tgt := 68) B dX0_isBarred_61 (by decide) (fun cn14 => ?_) (fun cn14 => ?_)
    · have h := ot (lc_eq.mp cn14) h
      refine r_iconst (v := 0) B dX0_isBarred_68 (by decide) ?_
      exact r_zret B dX0_isBarred_69 (by decide) h
    · have h := of (fun z => cn14 (lc_eq.mpr z)) h
      refine r_iconst (v := 1) B dX0_isBarred_64 (by decide) ?_
      refine r_goto (tgt := 69) B dX0_isBarred_65 (by decide) ?_
      exact r_zret B dX0_isBarred_69 (by decide) h
  · have h := ot cn1 h
    refine r_iconst (v := 0) B dX0_isBarred_11 (by decide) ?_
    exact r_zret B dX0_isBarred_12 (by decide) h
set_option maxHeartbeats 4000000 in
theorem cw_X0_isBarred {X : CX} {fr lo : Nat} (h1 : Nat.ble (243 + 1) fr = true) (h2 : Nat.ble (24 + 13670) lo = true) : CW X fr lo yX0_isBarred cX0_isBarred 5 (some .boolean) 243 13670 4 := ⟨q566, q126, ⟨by decide +kernel, by decide +kernel, by decide +kernel⟩, Nat.le_of_ble_eq_true h1, Nat.le_of_ble_eq_true h2⟩

set_option maxHeartbeats 4000000 in
noncomputable def F_X0_comesIn (s : St) (p0 : Int32) (p1 : Int32) (p2 : Int32) (p3 : Int32) : Option (Int32 × St) := bnd (F_X0_isCell s p0) fun r1 s2 => if r1 = 0 then (some ((-1 : Int32), s2)) else (bnd (F_X0_isPut s2 (0 : Int32) p1) fun r5 s6 => if r5 = 0 then (some ((-1 : Int32), s6)) else (bnd (F_X0_isPut s6 (1 : Int32) p2) fun r9 s10 => if r9 = 0 then (some ((-1 : Int32), s10)) else (bnd (F_X0_isPut s10 (2 : Int32) p3) fun r13 s14 => if r13 = 0 then (some ((-1 : Int32), s14)) else (bnd (F_X0_whoIn s14 (some 3) p0) fun r17 s18 => if r17 = (-1 : Int32) then (if (si s18 2 8) = (6 : Int32) then (bnd (F_X0_isBarred s18 (si s18 2 8) p2 p3 p0) fun r43 s44 => if r43 = 0 then (some ((-5 : Int32), s44)) else (some ((-3 : Int32), s44))) else (bnd (F_X0_isBarred s18 (si s18 2 8) p2 p3 p0) fun r22 s23 => if r22 = 0 then (gd (inb (si s18 2 8) 6) <| nam (setI s23 3 (si s18 2 8).toNatClampNeg p0) fun s27 => gd (inb (si s18 2 8) 6) <| nam (setI s27 4 (si s18 2 8).toNatClampNeg p1) fun s30 => gd (inb (si s18 2 8) 6) <| nam (setI s30 5 (si s18 2 8).toNatClampNeg p2) fun s33 => gd (inb (si s18 2 8) 6) <| nam (setI s33 6 (si s18 2 8).toNatClampNeg p3) fun s36 => gd (inb (si s18 2 8) 6) <| nam (setI s36 7 (si s18 2 8).toNatClampNeg (-1 : Int32)) fun s39 => nam (setI s39 2 8 ((si s39 2 8) + (1 : Int32))) fun s41 => some ((0 : Int32), s41)) else (some ((-3 : Int32), s23)))) else (some ((-3 : Int32), s18))))))
set_option maxHeartbeats 4000000 in
theorem c_X0_comesIn {l : Launch} {E : EV} (hE : GE E) (hS : ∀ σ, eSk E σ ↔ SkC σ) {s s' : St} {r : Int32} {p0 : Int32} {p1 : Int32} {p2 : Int32} {p3 : Int32} (h : F_X0_comesIn  s p0 p1 p2 p3 = some (r, s')) : CT l E yX0_comesIn cX0_comesIn 6 (some .int) 244 13694 [vr (some 0), vi p0, vi p1, vi p2, vi p3] s (some (vi r)) s' := by
  refine CT.start hE (by decide) rfl [(0, vr (some 0)), (1, vi p0), (2, vi p1), (3, vi p2), (4, vi p3)] rfl (fun X hX B => ?_)
  skip
  have B : FX X E cX0_comesIn 6 (some .int) "RoseThrow" "comesIn" (sn s) (ss s) 244 13694 := B
  unfold F_X0_comesIn at h
  refine r_iload_n (j := 1) B dX0_comesIn_0 rfl rfl ?_
  obtain ⟨r1, s2, hc3, h⟩ := bnd_e h
  refine r_callSv (As := [vi p0]) (rest := []) B rfl EX.same (c_X0_isCell B.ge hS hc3) (cw_X0_isCell rfl rfl) q553 q554 rfl dX0_comesIn_1 ?_
  refine r_if_eq (tgt := 32) B dX0_comesIn_4 (by decide) (fun cn4 => ?_) (fun cn4 => ?_)
  · have h := ot cn4 h
    refine r_iconst (v := -1) B dX0_comesIn_32 (by decide) ?_
    exact r_iret B dX0_comesIn_33 h
  · have h := of cn4 h
    refine r_iconst (v := 0) B dX0_comesIn_7 (by decide) ?_
    refine r_iload_n (j := 2) B dX0_comesIn_8 rfl rfl ?_
    obtain ⟨r5, s6, hc7, h⟩ := bnd_e h
    refine r_callSv (As := [vi (0 : Int32), vi p1]) (rest := []) B rfl EX.same (c_X0_isPut B.ge hS hc7) (cw_X0_isPut rfl rfl) q556 q557 rfl dX0_comesIn_9 ?_
    refine r_if_eq (tgt := 32) B dX0_comesIn_12 (by decide) (fun cn8 => ?_) (fun cn8 => ?_)
    · have h := ot cn8 h
      refine r_iconst (v := -1) B dX0_comesIn_32 (by decide) ?_
      exact r_iret B dX0_comesIn_33 h
    · have h := of cn8 h
      refine r_iconst (v := 1) B dX0_comesIn_15 (by decide) ?_
      refine r_iload_n (j := 3) B dX0_comesIn_16 rfl rfl ?_
      obtain ⟨r9, s10, hc11, h⟩ := bnd_e h
      refine r_callSv (As := [vi (1 : Int32), vi p2]) (rest := []) B rfl EX.same (c_X0_isPut B.ge hS hc11) (cw_X0_isPut rfl rfl) q556 q557 rfl dX0_comesIn_17 ?_
      refine r_if_eq (tgt := 32) B dX0_comesIn_20 (by decide) (fun cn12 => ?_) (fun cn12 => ?_)
      · have h := ot cn12 h
        refine r_iconst (v := -1) B dX0_comesIn_32 (by decide) ?_
        exact r_iret B dX0_comesIn_33 h
      · have h := of cn12 h
        refine r_iconst (v := 2) B dX0_comesIn_23 (by decide) ?_
        refine r_iload (j := 4) B dX0_comesIn_24 rfl ?_
        obtain ⟨r13, s14, hc15, h⟩ := bnd_e h
        refine r_callSv (As := [vi (2 : Int32), vi p3]) (rest := []) B rfl EX.same (c_X0_isPut B.ge hS hc15) (cw_X0_isPut rfl rfl) q556 q557 rfl dX0_comesIn_26 ?_
        refine r_if_ne (tgt := 34) B dX0_comesIn_29 (by decide) (fun cn16 => ?_) (fun cn16 => ?_)
        · have h := of cn16 h
          refine r_aload_n (j := 0) B dX0_comesIn_34 rfl rfl ?_
          refine r_aload_n (j := 0) B dX0_comesIn_35 rfl rfl ?_
          refine g0 (k := 2) B (vr (some 2)) rfl (fun z => by rw [((hS _).1 z).1 0 (by decide)]; rfl) rfl q358 rfl (fun z => by rw [((hS _).1 z).2 _ (List.mem_of_getElem? (i := 1) rfl)]; rfl) dX0_comesIn_36 ?_
          refine g1N (k := 0) B (vr (some 3)) rfl (fun z => by rw [((hS _).1 z).1 2 (by decide)]; rfl) rfl (lw_n q206 rfl) rfl (fun z => by rw [((hS _).1 z).2 _ (List.mem_of_getElem? (i := 17) rfl)]; rfl) dX0_comesIn_39 ?_
          refine r_iload_n (j := 1) B dX0_comesIn_42 rfl rfl ?_
          obtain ⟨r17, s18, hc19, h⟩ := bnd_e h
          refine r_callVv (As := [vr (some 3), vi p0]) (rest := []) B rfl rfl EX.same (c_X0_whoIn B.ge hS hc19) (cw_X0_whoIn rfl rfl) (fun z => RV.of 0 (by rw [((hS _).1 z).1 0 (by decide)]; rfl) rfl rfl qs6) q559 q561 rfl dX0_comesIn_43 ?_
          refine r_iconst (v := -1) B dX0_comesIn_46 (by decide) ?_
          refine r_ic_eq (tgt := 53) B dX0_comesIn_47 (by decide) (fun cn20 => ?_) (fun cn20 => ?_)
          · have h := ot cn20 h
            refine r_aload_n (j := 0) B dX0_comesIn_53 rfl rfl ?_
            refine g0 (k := 2) B (vr (some 2)) rfl (fun z => by rw [((hS _).1 z).1 0 (by decide)]; rfl) rfl q358 rfl (fun z => by rw [((hS _).1 z).2 _ (List.mem_of_getElem? (i := 1) rfl)]; rfl) dX0_comesIn_54 ?_
            refine g1N (k := 8) B (vi (si s18 2 8)) rfl (fun z => by rw [((hS _).1 z).1 2 (by decide)]; rfl) rfl (lw_n q222 rfl) rfl (fun _ => rfl) dX0_comesIn_57 ?_
            refine r_bipush (v := 6) B dX0_comesIn_60 (by decide) ?_
            refine r_ic_ne (tgt := 91) B dX0_comesIn_62 (by decide) (fun cn21 => ?_) (fun cn21 => ?_)
            · have h := of cn21 h
              refine r_aload_n (j := 0) B dX0_comesIn_91 rfl rfl ?_
              refine g0 (k := 2) B (vr (some 2)) rfl (fun z => by rw [((hS _).1 z).1 0 (by decide)]; rfl) rfl q358 rfl (fun z => by rw [((hS _).1 z).2 _ (List.mem_of_getElem? (i := 1) rfl)]; rfl) dX0_comesIn_92 ?_
              refine g1N (k := 8) B (vi (si s18 2 8)) rfl (fun z => by rw [((hS _).1 z).1 2 (by decide)]; rfl) rfl (lw_n q222 rfl) rfl (fun _ => rfl) dX0_comesIn_95 ?_
              refine r_istore (L' := [(0, vr (some 0)), (1, vi p0), (2, vi p1), (3, vi p2), (4, vi p3), (5, vi (si s18 2 8))]) B dX0_comesIn_98 (by decide) rfl rfl rfl ?_
              refine r_aload_n (j := 0) B dX0_comesIn_100 rfl rfl ?_
              refine r_iload (j := 5) B dX0_comesIn_101 rfl ?_
              refine r_iload_n (j := 3) B dX0_comesIn_103 rfl rfl ?_
              refine r_iload (j := 4) B dX0_comesIn_104 rfl ?_
              refine r_iload_n (j := 1) B dX0_comesIn_106 rfl rfl ?_
              obtain ⟨r22, s23, hc24, h⟩ := bnd_e h
              refine r_callVv (As := [vi (si s18 2 8), vi p2, vi p3, vi p0]) (rest := []) B rfl rfl EX.same (c_X0_isBarred B.ge hS hc24) (cw_X0_isBarred rfl rfl) (fun z => RV.of 0 (by rw [((hS _).1 z).1 0 (by decide)]; rfl) rfl rfl qs7) q563 q565 rfl dX0_comesIn_107 ?_
              refine r_if_eq (tgt := 116) B dX0_comesIn_110 (by decide) (fun cn25 => ?_) (fun cn25 => ?_)
              · have h := ot cn25 h
                refine r_aload_n (j := 0) B dX0_comesIn_116 rfl rfl ?_
                refine g0 (k := 2) B (vr (some 2)) rfl (fun z => by rw [((hS _).1 z).1 0 (by decide)]; rfl) rfl q358 rfl (fun z => by rw [((hS _).1 z).2 _ (List.mem_of_getElem? (i := 1) rfl)]; rfl) dX0_comesIn_117 ?_
                refine g1N (k := 0) B (vr (some 3)) rfl (fun z => by rw [((hS _).1 z).1 2 (by decide)]; rfl) rfl (lw_n q206 rfl) rfl (fun z => by rw [((hS _).1 z).2 _ (List.mem_of_getElem? (i := 17) rfl)]; rfl) dX0_comesIn_120 ?_
                refine r_iload (j := 5) B dX0_comesIn_123 rfl ?_
                refine r_iload_n (j := 1) B dX0_comesIn_125 rfl rfl ?_
                obtain ⟨hg26, h⟩ := gd_e h
                obtain ⟨s27, e28, h⟩ := nam_e h
                refine r_iast B e28 rfl (fun z => ((hS _).1 z).1 3 (by decide)) hg26 dX0_comesIn_126 ?_
                refine r_aload_n (j := 0) B dX0_comesIn_127 rfl rfl ?_
                refine g0 (k := 2) B (vr (some 2)) rfl (fun z => by rw [((hS _).1 z).1 0 (by decide)]; rfl) rfl q358 rfl (fun z => by rw [((hS _).1 z).2 _ (List.mem_of_getElem? (i := 1) rfl)]; rfl) dX0_comesIn_128 ?_
                refine g1N (k := 1) B (vr (some 4)) rfl (fun z => by rw [((hS _).1 z).1 2 (by decide)]; rfl) rfl (lw_n q208 rfl) rfl (fun z => by rw [((hS _).1 z).2 _ (List.mem_of_getElem? (i := 18) rfl)]; rfl) dX0_comesIn_131 ?_
                refine r_iload (j := 5) B dX0_comesIn_134 rfl ?_
                refine r_iload_n (j := 2) B dX0_comesIn_136 rfl rfl ?_
                obtain ⟨hg29, h⟩ := gd_e h
                obtain ⟨s30, e31, h⟩ := nam_e h
                refine r_iast B e31 rfl (fun z => ((hS _).1 z).1 4 (by decide)) hg29 dX0_comesIn_137 ?_
                refine r_aload_n (j := 0) B dX0_comesIn_138 rfl rfl ?_
                refine g0 (k := 2) B (vr (some 2)) rfl (fun z => by rw [((hS _).1 z).1 0 (by decide)]; rfl) rfl q358 rfl (fun z => by rw [((hS _).1 z).2 _ (List.mem_of_getElem? (i := 1) rfl)]; rfl) dX0_comesIn_139 ?_
                refine g1N (k := 2) B (vr (some 5)) rfl (fun z => by rw [((hS _).1 z).1 2 (by decide)]; rfl) rfl (lw_n q210 rfl) rfl (fun z => by rw [((hS _).1 z).2 _ (List.mem_of_getElem? (i := 19) rfl)]; rfl) dX0_comesIn_142 ?_
                refine r_iload (j := 5) B dX0_comesIn_145 rfl ?_
                refine r_iload_n (j := 3) B dX0_comesIn_147 rfl rfl ?_
                obtain ⟨hg32, h⟩ := gd_e h
                obtain ⟨s33, e34, h⟩ := nam_e h
                refine r_iast B e34 rfl (fun z => ((hS _).1 z).1 5 (by decide)) hg32 dX0_comesIn_148 ?_
                refine r_aload_n (j := 0) B dX0_comesIn_149 rfl rfl ?_
                refine g0 (k := 2) B (vr (some 2)) rfl (fun z => by rw [((hS _).1 z).1 0 (by decide)]; rfl) rfl q358 rfl (fun z => by rw [((hS _).1 z).2 _ (List.mem_of_getElem? (i := 1) rfl)]; rfl) dX0_comesIn_150 ?_
                refine g1N (k := 3) B (vr (some 6)) rfl (fun z => by rw [((hS _).1 z).1 2 (by decide)]; rfl) rfl (lw_n q212 rfl) rfl (fun z => by rw [((hS _).1 z).2 _ (List.mem_of_getElem? (i := 20) rfl)]; rfl) dX0_comesIn_153 ?_
                refine r_iload (j := 5) B dX0_comesIn_156 rfl ?_
                refine r_iload (j := 4) B dX0_comesIn_158 rfl ?_
                obtain ⟨hg35, h⟩ := gd_e h
                obtain ⟨s36, e37, h⟩ := nam_e h
                refine r_iast B e37 rfl (fun z => ((hS _).1 z).1 6 (by decide)) hg35 dX0_comesIn_160 ?_
                refine r_aload_n (j := 0) B dX0_comesIn_161 rfl rfl ?_
                refine g0 (k := 2) B (vr (some 2)) rfl (fun z => by rw [((hS _).1 z).1 0 (by decide)]; rfl) rfl q358 rfl (fun z => by rw [((hS _).1 z).2 _ (List.mem_of_getElem? (i := 1) rfl)]; rfl) dX0_comesIn_162 ?_
                refine g1N (k := 4) B (vr (some 7)) rfl (fun z => by rw [((hS _).1 z).1 2 (by decide)]; rfl) rfl (lw_n q214 rfl) rfl (fun z => by rw [((hS _).1 z).2 _ (List.mem_of_getElem? (i := 21) rfl)]; rfl) dX0_comesIn_165 ?_
                refine r_iload (j := 5) B dX0_comesIn_168 rfl ?_
                refine r_iconst (v := -1) B dX0_comesIn_170 (by decide) ?_
                obtain ⟨hg38, h⟩ := gd_e h
                obtain ⟨s39, e40, h⟩ := nam_e h
                refine r_iast B e40 rfl (fun z => ((hS _).1 z).1 7 (by decide)) hg38 dX0_comesIn_171 ?_
                refine r_aload_n (j := 0) B dX0_comesIn_172 rfl rfl ?_
                refine g0 (k := 2) B (vr (some 2)) rfl (fun z => by rw [((hS _).1 z).1 0 (by decide)]; rfl) rfl q358 rfl (fun z => by rw [((hS _).1 z).2 _ (List.mem_of_getElem? (i := 1) rfl)]; rfl) dX0_comesIn_173 ?_
                refine r_dup B dX0_comesIn_176 rfl ?_
                refine g1N (k := 8) B (vi (si s39 2 8)) rfl (fun z => by rw [((hS _).1 z).1 2 (by decide)]; rfl) rfl (lw_n q222 rfl) rfl (fun _ => rfl) dX0_comesIn_177 ?_
                refine r_iconst (v := 1) B dX0_comesIn_180 (by decide) ?_
                refine r_iadd B dX0_comesIn_181 ?_
                obtain ⟨s41, e42, h⟩ := nam_e h
                refine pI1N (k := 8) B e42 rfl (fun z => by rw [((hS _).1 z).1 2 (by decide)]; rfl) rfl (lw_n q222 rfl) rfl rfl (fun _ _ _ => rfl) rfl dX0_comesIn_182 ?_
                refine r_iconst (v := 0) B dX0_comesIn_185 (by decide) ?_
                exact r_iret B dX0_comesIn_186 h
              · have h := of cn25 h
                refine r_bipush (v := -3) B dX0_comesIn_113 (by decide) ?_
                exact r_iret B dX0_comesIn_115 h
            · have h := ot cn21 h
              refine r_aload_n (j := 0) B dX0_comesIn_65 rfl rfl ?_
              refine r_aload_n (j := 0) B dX0_comesIn_66 rfl rfl ?_
              refine g0 (k := 2) B (vr (some 2)) rfl (fun z => by rw [((hS _).1 z).1 0 (by decide)]; rfl) rfl q358 rfl (fun z => by rw [((hS _).1 z).2 _ (List.mem_of_getElem? (i := 1) rfl)]; rfl) dX0_comesIn_67 ?_
              refine g1N (k := 8) B (vi (si s18 2 8)) rfl (fun z => by rw [((hS _).1 z).1 2 (by decide)]; rfl) rfl (lw_n q222 rfl) rfl (fun _ => rfl) dX0_comesIn_70 ?_
              refine r_iload_n (j := 3) B dX0_comesIn_73 rfl rfl ?_
              refine r_iload (j := 4) B dX0_comesIn_74 rfl ?_
              refine r_iload_n (j := 1) B dX0_comesIn_76 rfl rfl ?_
              obtain ⟨r43, s44, hc45, h⟩ := bnd_e h
              refine r_callVv (As := [vi (si s18 2 8), vi p2, vi p3, vi p0]) (rest := []) B rfl rfl EX.same (c_X0_isBarred B.ge hS hc45) (cw_X0_isBarred rfl rfl) (fun z => RV.of 0 (by rw [((hS _).1 z).1 0 (by decide)]; rfl) rfl rfl qs7) q563 q565 rfl dX0_comesIn_77 ?_
              refine r_if_eq (tgt := 88) B dX0_comesIn_80 (by decide) (fun cn46 => ?_) (fun cn46 => ?_)
              · have h := ot cn46 h
                refine r_bipush (v := -5) B dX0_comesIn_88 (by decide) ?_
                exact r_iret B dX0_comesIn_90 h
              · have h := of cn46 h
                refine r_bipush (v := -3) B dX0_comesIn_83 (by decide) ?_
                refine r_goto (tgt := 90) B dX0_comesIn_85 (by decide) ?_
                exact r_iret B dX0_comesIn_90 h
          · have h := of cn20 h
            refine r_bipush (v := -3) B dX0_comesIn_50 (by decide) ?_
            exact r_iret B dX0_comesIn_52 h
        · have h := ot cn16 h
          refine r_iconst (v := -1) B dX0_comesIn_32 (by decide) ?_
          exact r_iret B dX0_comesIn_33 h
set_option maxHeartbeats 4000000 in
theorem cw_X0_comesIn {X : CX} {fr lo : Nat} (h1 : Nat.ble (244 + 1) fr = true) (h2 : Nat.ble (25 + 13694) lo = true) : CW X fr lo yX0_comesIn cX0_comesIn 6 (some .int) 244 13694 4 := ⟨q552, q126, ⟨by decide +kernel, by decide +kernel, by decide +kernel⟩, Nat.le_of_ble_eq_true h1, Nat.le_of_ble_eq_true h2⟩

set_option maxHeartbeats 4000000 in
noncomputable def F_X0_catcher (s : St) (p0 : Int32) (p1 : Int32) (p2 : Int32) (p3 : Int32) : Option (Int32 × St) := bnd (F_X0_comesIn s p0 p1 p2 p3) fun r1 s2 => if 0 ≤ r1 then (bnd (F_X0_settled s2 ((si s2 2 8) - (1 : Int32))) fun r5 s6 => some (r5, s6)) else (bnd (F_X0_refuse s2 r1) fun r8 s9 => some (r8, s9))
set_option maxHeartbeats 4000000 in
theorem c_X0_catcher {l : Launch} {E : EV} (hE : GE E) (hS : ∀ σ, eSk E σ ↔ SkC σ) {s s' : St} {r : Int32} {p0 : Int32} {p1 : Int32} {p2 : Int32} {p3 : Int32} (h : F_X0_catcher  s p0 p1 p2 p3 = some (r, s')) : CT l E yX0_catcher cX0_catcher 6 (some .int) 245 13719 [vr (some 0), vi p0, vi p1, vi p2, vi p3] s (some (vi r)) s' := by
  refine CT.start hE (by decide) rfl [(0, vr (some 0)), (1, vi p0), (2, vi p1), (3, vi p2), (4, vi p3)] rfl (fun X hX B => ?_)
  skip
  have B : FX X E cX0_catcher 6 (some .int) "RoseThrow" "catcher" (sn s) (ss s) 245 13719 := B
  unfold F_X0_catcher at h
  refine r_aload_n (j := 0) B dX0_catcher_0 rfl rfl ?_
  refine r_iload_n (j := 1) B dX0_catcher_1 rfl rfl ?_
  refine r_iload_n (j := 2) B dX0_catcher_2 rfl rfl ?_
  refine r_iload_n (j := 3) B dX0_catcher_3 rfl rfl ?_
  refine r_iload (j := 4) B dX0_catcher_4 rfl ?_
  obtain ⟨r1, s2, hc3, h⟩ := bnd_e h
  refine r_callVv (As := [vi p0, vi p1, vi p2, vi p3]) (rest := []) B rfl rfl EX.same (c_X0_comesIn B.ge hS hc3) (cw_X0_comesIn rfl rfl) (fun z => RV.of 0 (by rw [((hS _).1 z).1 0 (by decide)]; rfl) rfl rfl qs5) q549 q551 rfl dX0_catcher_6 ?_
  refine r_istore (L' := [(0, vr (some 0)), (1, vi p0), (2, vi p1), (3, vi p2), (4, vi p3), (5, vi r1)]) B dX0_catcher_9 (by decide) rfl rfl rfl ?_
  refine r_iload (j := 5) B dX0_catcher_11 rfl ?_
  refine r_if_ge (tgt := 25) B dX0_catcher_13 (by decide) (fun cn4 => ?_) (fun cn4 => ?_)
  · have h := ot cn4 h
    refine r_aload_n (j := 0) B dX0_catcher_25 rfl rfl ?_
    refine r_aload_n (j := 0) B dX0_catcher_26 rfl rfl ?_
    refine g0 (k := 2) B (vr (some 2)) rfl (fun z => by rw [((hS _).1 z).1 0 (by decide)]; rfl) rfl q358 rfl (fun z => by rw [((hS _).1 z).2 _ (List.mem_of_getElem? (i := 1) rfl)]; rfl) dX0_catcher_27 ?_
    refine g1N (k := 8) B (vi (si s2 2 8)) rfl (fun z => by rw [((hS _).1 z).1 2 (by decide)]; rfl) rfl (lw_n q222 rfl) rfl (fun _ => rfl) dX0_catcher_30 ?_
    refine r_iconst (v := 1) B dX0_catcher_33 (by decide) ?_
    refine r_isub B dX0_catcher_34 ?_
    obtain ⟨r5, s6, hc7, h⟩ := bnd_e h
    refine r_callVv (As := [vi ((si s2 2 8) - (1 : Int32))]) (rest := []) B rfl rfl EX.same (c_X0_settled B.ge hS hc7) (cw_X0_settled rfl rfl) (fun z => RV.of 0 (by rw [((hS _).1 z).1 0 (by decide)]; rfl) rfl rfl qs4) q541 q543 rfl dX0_catcher_35 ?_
    exact r_iret B dX0_catcher_38 h
  · have h := of cn4 h
    refine r_aload_n (j := 0) B dX0_catcher_16 rfl rfl ?_
    refine r_iload (j := 5) B dX0_catcher_17 rfl ?_
    obtain ⟨r8, s9, hc10, h⟩ := bnd_e h
    refine r_callVv (As := [vi r1]) (rest := []) B rfl rfl EX.same (c_X0_refuse B.ge hS hc10) (cw_X0_refuse rfl rfl) (fun z => RV.of 0 (by rw [((hS _).1 z).1 0 (by decide)]; rfl) rfl rfl qs1) q448 q450 rfl dX0_catcher_19 ?_
    refine r_goto (tgt := 38) B dX0_catcher_22 (by decide) ?_
    exact r_iret B dX0_catcher_38 h
set_option maxHeartbeats 4000000 in
theorem cw_X0_catcher {X : CX} {fr lo : Nat} (h1 : Nat.ble (245 + 1) fr = true) (h2 : Nat.ble (25 + 13719) lo = true) : CW X fr lo yX0_catcher cX0_catcher 6 (some .int) 245 13719 4 := ⟨q548, q126, ⟨by decide +kernel, by decide +kernel, by decide +kernel⟩, Nat.le_of_ble_eq_true h1, Nat.le_of_ble_eq_true h2⟩

set_option maxHeartbeats 4000000 in
noncomputable def F_X0_isCatcher (s : St) (p0 : Int32) : Option (Int32 × St) := bnd (F_X0_in s p0 (0 : Int32) ((si s 2 8) - (1 : Int32))) fun r1 s2 => gd (fits .boolean (.int r1)) <| some (r1, s2)
set_option maxHeartbeats 4000000 in
theorem c_X0_isCatcher {l : Launch} {E : EV} (hE : GE E) (hS : ∀ σ, eSk E σ ↔ SkC σ) {s s' : St} {r : Int32} {p0 : Int32} (h : F_X0_isCatcher  s p0 = some (r, s')) : CT l E yX0_isCatcher cX0_isCatcher 2 (some .boolean) 1 22 [vr (some 0), vi p0] s (some (vi r)) s' := by
  refine CT.start hE (by decide) rfl [(0, vr (some 0)), (1, vi p0)] rfl (fun X hX B => ?_)
  skip
  have B : FX X E cX0_isCatcher 2 (some .boolean) "RoseThrow" "isCatcher" (sn s) (ss s) 1 22 := B
  unfold F_X0_isCatcher at h
  refine r_iload_n (j := 1) B dX0_isCatcher_0 rfl rfl ?_
  refine r_iconst (v := 0) B dX0_isCatcher_1 (by decide) ?_
  refine r_aload_n (j := 0) B dX0_isCatcher_2 rfl rfl ?_
  refine g0 (k := 2) B (vr (some 2)) rfl (fun z => by rw [((hS _).1 z).1 0 (by decide)]; rfl) rfl q358 rfl (fun z => by rw [((hS _).1 z).2 _ (List.mem_of_getElem? (i := 1) rfl)]; rfl) dX0_isCatcher_3 ?_
  refine g1N (k := 8) B (vi (si s 2 8)) rfl (fun z => by rw [((hS _).1 z).1 2 (by decide)]; rfl) rfl (lw_n q222 rfl) rfl (fun _ => rfl) dX0_isCatcher_6 ?_
  refine r_iconst (v := 1) B dX0_isCatcher_9 (by decide) ?_
  refine r_isub B dX0_isCatcher_10 ?_
  obtain ⟨r1, s2, hc3, h⟩ := bnd_e h
  refine r_callSv (As := [vi p0, vi (0 : Int32), vi ((si s 2 8) - (1 : Int32))]) (rest := []) B rfl EX.same (c_X0_in B.ge hS hc3) (cw_X0_in rfl rfl) q445 q446 rfl dX0_isCatcher_11 ?_
  obtain ⟨hg4, h⟩ := gd_e h
  exact r_zret B dX0_isCatcher_14 hg4 h
set_option maxHeartbeats 4000000 in
theorem cw_X0_isCatcher {X : CX} {fr lo : Nat} (h1 : Nat.ble (1 + 1) fr = true) (h2 : Nat.ble (21 + 22) lo = true) : CW X fr lo yX0_isCatcher cX0_isCatcher 2 (some .boolean) 1 22 1 := ⟨q657, q126, ⟨by decide +kernel, by decide +kernel, by decide +kernel⟩, Nat.le_of_ble_eq_true h1, Nat.le_of_ble_eq_true h2⟩

set_option maxHeartbeats 4000000 in
noncomputable def F_X0_put_65 (s : St) (x1 : Int32) (x3 : Int32) (z0 : Option Nat) : Option (Int32 × St) := drf z0 fun a1 => gd (isK s a1 100) <| gd (inb x1 (sk s a1).2) <| nam (setI s a1 x1.toNatClampNeg x3) fun s5 => bnd (F_X0_done s5 (0 : Int32)) fun r7 s8 => some (r7, s8)
set_option maxHeartbeats 4000000 in
theorem w_X0_put_65 {X : CX} {E : EV} {a0 s' : St} {r : Int32} (B : FX X E cX0_put 5 (some .int) "RoseThrow" "put" (sn a0) (ss a0) 2 43) (hS : ∀ σ, eSk E σ ↔ SkC σ) (s : St) (x1 : Int32) (x3 : Int32) (z0 : Option Nat) (h : F_X0_put_65   s x1 x3 z0 = some (r, s')) : J X E (sn a0) (ss a0) 5 (QR X E a0 (some (vi r)) s') s 65 [(0, vr (some 0)), (1, vi x1), (3, vi x3)] [vr z0] := by
  unfold F_X0_put_65 at h
  refine r_astore (L' := [(0, vr (some 0)), (1, vi x1), (3, vi x3), (4, vr z0)]) B dX0_put_65 (by decide) rfl rfl rfl ?_
  refine r_aload (j := 3) B dX0_put_67 rfl ?_
  refine r_iload_n (j := 1) B dX0_put_69 rfl rfl ?_
  refine r_iload_n (j := 2) B dX0_put_70 rfl rfl ?_
  obtain ⟨a1, ea2, h⟩ := drf_e h
  obtain ⟨hg3, h⟩ := gd_e h
  obtain ⟨hg4, h⟩ := gd_e h
  obtain ⟨s5, e6, h⟩ := nam_e h
  refine r_iast B e6 ea2 (fun _ => isK_a hg3) hg4 dX0_put_71 ?_
  refine r_aload_n (j := 0) B dX0_put_72 rfl rfl ?_
  refine r_iconst (v := 0) B dX0_put_73 (by decide) ?_
  obtain ⟨r7, s8, hc9, h⟩ := bnd_e h
  refine r_callVv (As := [vi (0 : Int32)]) (rest := []) B rfl rfl EX.same (c_X0_done B.ge hS hc9) (cw_X0_done rfl rfl) (fun z => RV.of 0 (by rw [((hS _).1 z).1 0 (by decide)]; rfl) rfl rfl qs3) q533 q535 rfl dX0_put_74 ?_
  exact r_iret B dX0_put_77 h
set_option maxHeartbeats 4000000 in
noncomputable def F_X0_put (s : St) (p0 : Int32) (p1 : Int32) (p2 : Int32) : Option (Int32 × St) := bnd (F_X0_isPut s p1 p2) fun r1 s2 => if r1 = 0 then (bnd (F_X0_refuse s2 (-1 : Int32)) fun r14 s15 => some (r14, s15)) else (bnd (F_X0_isCatcher s2 p0) fun r5 s6 => if r5 = 0 then (bnd (F_X0_refuse s6 (-2 : Int32)) fun r11 s12 => some (r11, s12)) else (if p1 = 0 then (F_X0_put_65 s6 p0 p2 (some 4)) else (if p1 = (1 : Int32) then (F_X0_put_65 s6 p0 p2 (some 5)) else (F_X0_put_65 s6 p0 p2 (some 6)))))
set_option maxHeartbeats 4000000 in
theorem c_X0_put {l : Launch} {E : EV} (hE : GE E) (hS : ∀ σ, eSk E σ ↔ SkC σ) {s s' : St} {r : Int32} {p0 : Int32} {p1 : Int32} {p2 : Int32} (h : F_X0_put  s p0 p1 p2 = some (r, s')) : CT l E yX0_put cX0_put 5 (some .int) 2 43 [vr (some 0), vi p0, vi p1, vi p2] s (some (vi r)) s' := by
  refine CT.start hE (by decide) rfl [(0, vr (some 0)), (1, vi p0), (2, vi p1), (3, vi p2)] rfl (fun X hX B => ?_)
  skip
  have B : FX X E cX0_put 5 (some .int) "RoseThrow" "put" (sn s) (ss s) 2 43 := B
  unfold F_X0_put at h
  refine r_iload_n (j := 2) B dX0_put_0 rfl rfl ?_
  refine r_iload_n (j := 3) B dX0_put_1 rfl rfl ?_
  obtain ⟨r1, s2, hc3, h⟩ := bnd_e h
  refine r_callSv (As := [vi p1, vi p2]) (rest := []) B rfl EX.same (c_X0_isPut B.ge hS hc3) (cw_X0_isPut rfl rfl) q556 q557 rfl dX0_put_2 ?_
  refine r_if_ne (tgt := 14) B dX0_put_5 (by decide) (fun cn4 => ?_) (fun cn4 => ?_)
  · have h := of cn4 h
    refine r_aload_n (j := 0) B dX0_put_14 rfl rfl ?_
    refine r_iload_n (j := 1) B dX0_put_15 rfl rfl ?_
    obtain ⟨r5, s6, hc7, h⟩ := bnd_e h
    refine r_callVv (As := [vi p0]) (rest := []) B rfl rfl EX.same (c_X0_isCatcher B.ge hS hc7) (cw_X0_isCatcher rfl rfl) (fun z => RV.of 0 (by rw [((hS _).1 z).1 0 (by decide)]; rfl) rfl rfl qs12) q654 q656 rfl dX0_put_16 ?_
    refine r_if_ne (tgt := 29) B dX0_put_19 (by decide) (fun cn8 => ?_) (fun cn8 => ?_)
    · have h := of cn8 h
      refine r_iload_n (j := 2) B dX0_put_29 rfl rfl ?_
      refine r_if_ne (tgt := 43) B dX0_put_30 (by decide) (fun cn9 => ?_) (fun cn9 => ?_)
      · have h := of cn9 h
        refine r_iload_n (j := 2) B dX0_put_43 rfl rfl ?_
        refine r_iconst (v := 1) B dX0_put_44 (by decide) ?_
        refine r_ic_ne (tgt := 58) B dX0_put_45 (by decide) (fun cn10 => ?_) (fun cn10 => ?_)
        · have h := of cn10 h
          refine r_aload_n (j := 0) B dX0_put_58 rfl rfl ?_
          refine g0 (k := 2) B (vr (some 2)) rfl (fun z => by rw [((hS _).1 z).1 0 (by decide)]; rfl) rfl q358 rfl (fun z => by rw [((hS _).1 z).2 _ (List.mem_of_getElem? (i := 1) rfl)]; rfl) dX0_put_59 ?_
          refine g1N (k := 3) B (vr (some 6)) rfl (fun z => by rw [((hS _).1 z).1 2 (by decide)]; rfl) rfl (lw_n q212 rfl) rfl (fun z => by rw [((hS _).1 z).2 _ (List.mem_of_getElem? (i := 20) rfl)]; rfl) dX0_put_62 ?_
          refine r_pick [0, 1, 3] (L' := [(0, vr (some 0)), (1, vi p0), (3, vi p2)]) rfl ?_
          exact w_X0_put_65 B hS s6 p0 p2 (some 6) h
        · have h := ot cn10 h
          refine r_aload_n (j := 0) B dX0_put_48 rfl rfl ?_
          refine g0 (k := 2) B (vr (some 2)) rfl (fun z => by rw [((hS _).1 z).1 0 (by decide)]; rfl) rfl q358 rfl (fun z => by rw [((hS _).1 z).2 _ (List.mem_of_getElem? (i := 1) rfl)]; rfl) dX0_put_49 ?_
          refine g1N (k := 2) B (vr (some 5)) rfl (fun z => by rw [((hS _).1 z).1 2 (by decide)]; rfl) rfl (lw_n q210 rfl) rfl (fun z => by rw [((hS _).1 z).2 _ (List.mem_of_getElem? (i := 19) rfl)]; rfl) dX0_put_52 ?_
          refine r_goto (tgt := 65) B dX0_put_55 (by decide) ?_
          refine r_pick [0, 1, 3] (L' := [(0, vr (some 0)), (1, vi p0), (3, vi p2)]) rfl ?_
          exact w_X0_put_65 B hS s6 p0 p2 (some 5) h
      · have h := ot cn9 h
        refine r_aload_n (j := 0) B dX0_put_33 rfl rfl ?_
        refine g0 (k := 2) B (vr (some 2)) rfl (fun z => by rw [((hS _).1 z).1 0 (by decide)]; rfl) rfl q358 rfl (fun z => by rw [((hS _).1 z).2 _ (List.mem_of_getElem? (i := 1) rfl)]; rfl) dX0_put_34 ?_
        refine g1N (k := 1) B (vr (some 4)) rfl (fun z => by rw [((hS _).1 z).1 2 (by decide)]; rfl) rfl (lw_n q208 rfl) rfl (fun z => by rw [((hS _).1 z).2 _ (List.mem_of_getElem? (i := 18) rfl)]; rfl) dX0_put_37 ?_
        refine r_goto (tgt := 65) B dX0_put_40 (by decide) ?_
        refine r_pick [0, 1, 3] (L' := [(0, vr (some 0)), (1, vi p0), (3, vi p2)]) rfl ?_
        exact w_X0_put_65 B hS s6 p0 p2 (some 4) h
    · have h := ot cn8 h
      refine r_aload_n (j := 0) B dX0_put_22 rfl rfl ?_
      refine r_bipush (v := -2) B dX0_put_23 (by decide) ?_
      obtain ⟨r11, s12, hc13, h⟩ := bnd_e h
      refine r_callVv (As := [vi (-2 : Int32)]) (rest := []) B rfl rfl EX.same (c_X0_refuse B.ge hS hc13) (cw_X0_refuse rfl rfl) (fun z => RV.of 0 (by rw [((hS _).1 z).1 0 (by decide)]; rfl) rfl rfl qs1) q448 q450 rfl dX0_put_25 ?_
      exact r_iret B dX0_put_28 h
  · have h := ot cn4 h
    refine r_aload_n (j := 0) B dX0_put_8 rfl rfl ?_
    refine r_iconst (v := -1) B dX0_put_9 (by decide) ?_
    obtain ⟨r14, s15, hc16, h⟩ := bnd_e h
    refine r_callVv (As := [vi (-1 : Int32)]) (rest := []) B rfl rfl EX.same (c_X0_refuse B.ge hS hc16) (cw_X0_refuse rfl rfl) (fun z => RV.of 0 (by rw [((hS _).1 z).1 0 (by decide)]; rfl) rfl rfl qs1) q448 q450 rfl dX0_put_10 ?_
    exact r_iret B dX0_put_13 h
set_option maxHeartbeats 4000000 in
theorem cw_X0_put {X : CX} {fr lo : Nat} (h1 : Nat.ble (2 + 1) fr = true) (h2 : Nat.ble (24 + 43) lo = true) : CW X fr lo yX0_put cX0_put 5 (some .int) 2 43 3 := ⟨q653, q126, ⟨by decide +kernel, by decide +kernel, by decide +kernel⟩, Nat.le_of_ble_eq_true h1, Nat.le_of_ble_eq_true h2⟩

set_option maxHeartbeats 4000000 in
noncomputable def F_X0_of (s : St) (p0 : Int32) (p1 : Int32) : Option (Int32 × St) := bnd (F_X0_isCatcher s p0) fun r1 s2 => if r1 = 0 then (some ((-1000 : Int32), s2)) else ((if p1 = (0 : Int32) then (gd (inb p0 6) <| some ((si s2 4 p0.toNatClampNeg), s2)) else (if p1 = (1 : Int32) then (gd (inb p0 6) <| some ((si s2 5 p0.toNatClampNeg), s2)) else (if p1 = (2 : Int32) then (gd (inb p0 6) <| some ((si s2 6 p0.toNatClampNeg), s2)) else (if p1 = (3 : Int32) then (gd (inb p0 6) <| some ((si s2 3 p0.toNatClampNeg), s2)) else (if p1 = (4 : Int32) then (gd (inb p0 6) <| some ((si s2 7 p0.toNatClampNeg), s2)) else (some ((-1000 : Int32), s2))))))))
set_option maxHeartbeats 4000000 in
theorem c_X0_of {l : Launch} {E : EV} (hE : GE E) (hS : ∀ σ, eSk E σ ↔ SkC σ) {s s' : St} {r : Int32} {p0 : Int32} {p1 : Int32} (h : F_X0_of  s p0 p1 = some (r, s')) : CT l E yX0_of cX0_of 3 (some .int) 2 43 [vr (some 0), vi p0, vi p1] s (some (vi r)) s' := by
  refine CT.start hE (by decide) rfl [(0, vr (some 0)), (1, vi p0), (2, vi p1)] rfl (fun X hX B => ?_)
  skip
  have B : FX X E cX0_of 3 (some .int) "RoseThrow" "of" (sn s) (ss s) 2 43 := B
  unfold F_X0_of at h
  refine r_aload_n (j := 0) B dX0_of_0 rfl rfl ?_
  refine r_iload_n (j := 1) B dX0_of_1 rfl rfl ?_
  obtain ⟨r1, s2, hc3, h⟩ := bnd_e h
  refine r_callVv (As := [vi p0]) (rest := []) B rfl rfl EX.same (c_X0_isCatcher B.ge hS hc3) (cw_X0_isCatcher rfl rfl) (fun z => RV.of 0 (by rw [((hS _).1 z).1 0 (by decide)]; rfl) rfl rfl qs12) q654 q656 rfl dX0_of_2 ?_
  refine r_if_ne (tgt := 12) B dX0_of_5 (by decide) (fun cn4 => ?_) (fun cn4 => ?_)
  · have h := of cn4 h
    refine r_iload_n (j := 2) B dX0_of_12 rfl rfl ?_
    by_cases c13_0 : p1 = (0 : Int32)
    · have h := ot c13_0 h
      refine r_tin (tgt := 48) B dX0_of_13 c13_0 (by decide) (by decide) (off := 35) (by decide) (by decide) ?_
      refine r_aload_n (j := 0) B dX0_of_48 rfl rfl ?_
      refine g0 (k := 2) B (vr (some 2)) rfl (fun z => by rw [((hS _).1 z).1 0 (by decide)]; rfl) rfl q358 rfl (fun z => by rw [((hS _).1 z).2 _ (List.mem_of_getElem? (i := 1) rfl)]; rfl) dX0_of_49 ?_
      refine g1N (k := 1) B (vr (some 4)) rfl (fun z => by rw [((hS _).1 z).1 2 (by decide)]; rfl) rfl (lw_n q208 rfl) rfl (fun z => by rw [((hS _).1 z).2 _ (List.mem_of_getElem? (i := 18) rfl)]; rfl) dX0_of_52 ?_
      refine r_iload_n (j := 1) B dX0_of_55 rfl rfl ?_
      obtain ⟨hg5, h⟩ := gd_e h
      refine r_iald B rfl (fun z => ((hS _).1 z).1 4 (by decide)) hg5 dX0_of_56 ?_
      exact r_iret B dX0_of_57 h
    · have h := of c13_0 h
      by_cases c13_1 : p1 = (1 : Int32)
      · have h := ot c13_1 h
        refine r_tin (tgt := 58) B dX0_of_13 c13_1 (by decide) (by decide) (off := 45) (by decide) (by decide) ?_
        refine r_aload_n (j := 0) B dX0_of_58 rfl rfl ?_
        refine g0 (k := 2) B (vr (some 2)) rfl (fun z => by rw [((hS _).1 z).1 0 (by decide)]; rfl) rfl q358 rfl (fun z => by rw [((hS _).1 z).2 _ (List.mem_of_getElem? (i := 1) rfl)]; rfl) dX0_of_59 ?_
        refine g1N (k := 2) B (vr (some 5)) rfl (fun z => by rw [((hS _).1 z).1 2 (by decide)]; rfl) rfl (lw_n q210 rfl) rfl (fun z => by rw [((hS _).1 z).2 _ (List.mem_of_getElem? (i := 19) rfl)]; rfl) dX0_of_62 ?_
        refine r_iload_n (j := 1) B dX0_of_65 rfl rfl ?_
        obtain ⟨hg6, h⟩ := gd_e h
        refine r_iald B rfl (fun z => ((hS _).1 z).1 5 (by decide)) hg6 dX0_of_66 ?_
        exact r_iret B dX0_of_67 h
      · have h := of c13_1 h
        by_cases c13_2 : p1 = (2 : Int32)
        · have h := ot c13_2 h
          refine r_tin (tgt := 68) B dX0_of_13 c13_2 (by decide) (by decide) (off := 55) (by decide) (by decide) ?_
          refine r_aload_n (j := 0) B dX0_of_68 rfl rfl ?_
          refine g0 (k := 2) B (vr (some 2)) rfl (fun z => by rw [((hS _).1 z).1 0 (by decide)]; rfl) rfl q358 rfl (fun z => by rw [((hS _).1 z).2 _ (List.mem_of_getElem? (i := 1) rfl)]; rfl) dX0_of_69 ?_
          refine g1N (k := 3) B (vr (some 6)) rfl (fun z => by rw [((hS _).1 z).1 2 (by decide)]; rfl) rfl (lw_n q212 rfl) rfl (fun z => by rw [((hS _).1 z).2 _ (List.mem_of_getElem? (i := 20) rfl)]; rfl) dX0_of_72 ?_
          refine r_iload_n (j := 1) B dX0_of_75 rfl rfl ?_
          obtain ⟨hg7, h⟩ := gd_e h
          refine r_iald B rfl (fun z => ((hS _).1 z).1 6 (by decide)) hg7 dX0_of_76 ?_
          exact r_iret B dX0_of_77 h
        · have h := of c13_2 h
          by_cases c13_3 : p1 = (3 : Int32)
          · have h := ot c13_3 h
            refine r_tin (tgt := 78) B dX0_of_13 c13_3 (by decide) (by decide) (off := 65) (by decide) (by decide) ?_
            refine r_aload_n (j := 0) B dX0_of_78 rfl rfl ?_
            refine g0 (k := 2) B (vr (some 2)) rfl (fun z => by rw [((hS _).1 z).1 0 (by decide)]; rfl) rfl q358 rfl (fun z => by rw [((hS _).1 z).2 _ (List.mem_of_getElem? (i := 1) rfl)]; rfl) dX0_of_79 ?_
            refine g1N (k := 0) B (vr (some 3)) rfl (fun z => by rw [((hS _).1 z).1 2 (by decide)]; rfl) rfl (lw_n q206 rfl) rfl (fun z => by rw [((hS _).1 z).2 _ (List.mem_of_getElem? (i := 17) rfl)]; rfl) dX0_of_82 ?_
            refine r_iload_n (j := 1) B dX0_of_85 rfl rfl ?_
            obtain ⟨hg8, h⟩ := gd_e h
            refine r_iald B rfl (fun z => ((hS _).1 z).1 3 (by decide)) hg8 dX0_of_86 ?_
            exact r_iret B dX0_of_87 h
          · have h := of c13_3 h
            by_cases c13_4 : p1 = (4 : Int32)
            · have h := ot c13_4 h
              refine r_tin (tgt := 88) B dX0_of_13 c13_4 (by decide) (by decide) (off := 75) (by decide) (by decide) ?_
              refine r_aload_n (j := 0) B dX0_of_88 rfl rfl ?_
              refine g0 (k := 2) B (vr (some 2)) rfl (fun z => by rw [((hS _).1 z).1 0 (by decide)]; rfl) rfl q358 rfl (fun z => by rw [((hS _).1 z).2 _ (List.mem_of_getElem? (i := 1) rfl)]; rfl) dX0_of_89 ?_
              refine g1N (k := 4) B (vr (some 7)) rfl (fun z => by rw [((hS _).1 z).1 2 (by decide)]; rfl) rfl (lw_n q214 rfl) rfl (fun z => by rw [((hS _).1 z).2 _ (List.mem_of_getElem? (i := 21) rfl)]; rfl) dX0_of_92 ?_
              refine r_iload_n (j := 1) B dX0_of_95 rfl rfl ?_
              obtain ⟨hg9, h⟩ := gd_e h
              refine r_iald B rfl (fun z => ((hS _).1 z).1 7 (by decide)) hg9 dX0_of_96 ?_
              exact r_iret B dX0_of_97 h
            · have h := of c13_4 h
              refine r_tout (tgt := 98) B dX0_of_13 (by have t0 := lv_neT (a := 0) c13_0 (by decide); have t1 := lv_neT (a := 1) c13_1 (by decide); have t2 := lv_neT (a := 2) c13_2 (by decide); have t3 := lv_neT (a := 3) c13_3 (by decide); have t4 := lv_neT (a := 4) c13_4 (by decide); omega) (by decide) ?_
              refine r_sipush (v := -1000) B dX0_of_98 (by decide) ?_
              exact r_iret B dX0_of_101 h
  · have h := ot cn4 h
    refine r_sipush (v := -1000) B dX0_of_8 (by decide) ?_
    exact r_iret B dX0_of_11 h
set_option maxHeartbeats 4000000 in
theorem cw_X0_of {X : CX} {fr lo : Nat} (h1 : Nat.ble (2 + 1) fr = true) (h2 : Nat.ble (22 + 43) lo = true) : CW X fr lo yX0_of cX0_of 3 (some .int) 2 43 2 := ⟨q661, q126, ⟨by decide +kernel, by decide +kernel, by decide +kernel⟩, Nat.le_of_ble_eq_true h1, Nat.le_of_ble_eq_true h2⟩

set_option maxHeartbeats 4000000 in
noncomputable def F_X0_isTerm_67 (s : St) (x1 : Int32) : Option (Int32 × St) := bnd (F_X0_in s x1 (1 : Int32) (9 : Int32)) fun r1 s2 => gd (fits .boolean (.int r1)) <| some (r1, s2)
set_option maxHeartbeats 4000000 in
theorem w_X0_isTerm_67 {X : CX} {E : EV} {a0 s' : St} {r : Int32} (B : FX X E cX0_isTerm 2 (some .boolean) "RoseThrow" "isTerm" (sn a0) (ss a0) 1 22) (hS : ∀ σ, eSk E σ ↔ SkC σ) (s : St) (x1 : Int32) (h : F_X0_isTerm_67   s x1 = some (r, s')) : J X E (sn a0) (ss a0) 2 (QR X E a0 (some (vi r)) s') s 67 [(1, vi x1)] [] := by
  unfold F_X0_isTerm_67 at h
  refine r_iload_n (j := 0) B dX0_isTerm_67 rfl rfl ?_
  refine r_iconst (v := 1) B dX0_isTerm_68 (by decide) ?_
  refine r_bipush (v := 9) B dX0_isTerm_69 (by decide) ?_
  obtain ⟨r1, s2, hc3, h⟩ := bnd_e h
  refine r_callSv (As := [vi x1, vi (1 : Int32), vi (9 : Int32)]) (rest := []) B rfl EX.same (c_X0_in B.ge hS hc3) (cw_X0_in rfl rfl) q445 q446 rfl dX0_isTerm_71 ?_
  obtain ⟨hg4, h⟩ := gd_e h
  exact r_zret B dX0_isTerm_74 hg4 h
set_option maxHeartbeats 4000000 in
noncomputable def F_X0_isTerm (s : St) (p0 : Int32) (p1 : Int32) : Option (Int32 × St) := (if p0 = (0 : Int32) then (bnd (F_X0_in s p1 (1 : Int32) (5 : Int32)) fun r1 s2 => gd (fits .boolean (.int r1)) <| some (r1, s2)) else (if p0 = (1 : Int32) then (bnd (F_X0_in s p1 (-2 : Int32) (2 : Int32)) fun r5 s6 => gd (fits .boolean (.int r5)) <| some (r5, s6)) else (if p0 = (2 : Int32) then (F_X0_isTerm_67 s p1) else (if p0 = (3 : Int32) then (bnd (F_X0_in s p1 (2 : Int32) (3 : Int32)) fun r9 s10 => gd (fits .boolean (.int r9)) <| some (r9, s10)) else (if p0 = (4 : Int32) then (bnd (F_X0_in s p1 (0 : Int32) (5 : Int32)) fun r13 s14 => gd (fits .boolean (.int r13)) <| some (r13, s14)) else (if p0 = (5 : Int32) then (bnd (F_X0_in s p1 (0 : Int32) (2 : Int32)) fun r17 s18 => gd (fits .boolean (.int r17)) <| some (r17, s18)) else (if p0 = (6 : Int32) then (bnd (F_X0_in s p1 (-1 : Int32) (35 : Int32)) fun r21 s22 => gd (fits .boolean (.int r21)) <| some (r21, s22)) else (if p0 = (7 : Int32) then (F_X0_isTerm_67 s p1) else (if p0 = (8 : Int32) then (bnd (F_X0_in s p1 (0 : Int32) (9 : Int32)) fun r25 s26 => gd (fits .boolean (.int r25)) <| some (r25, s26)) else (some ((0 : Int32), s)))))))))))
set_option maxHeartbeats 4000000 in
theorem c_X0_isTerm {l : Launch} {E : EV} (hE : GE E) (hS : ∀ σ, eSk E σ ↔ SkC σ) {s s' : St} {r : Int32} {p0 : Int32} {p1 : Int32} (h : F_X0_isTerm  s p0 p1 = some (r, s')) : CT l E yX0_isTerm cX0_isTerm 2 (some .boolean) 1 22 [vi p0, vi p1] s (some (vi r)) s' := by
  refine CT.start hE (by decide) rfl [(0, vi p0), (1, vi p1)] rfl (fun X hX B => ?_)
  skip
  have B : FX X E cX0_isTerm 2 (some .boolean) "RoseThrow" "isTerm" (sn s) (ss s) 1 22 := B
  unfold F_X0_isTerm at h
  refine r_iload_n (j := 0) B dX0_isTerm_0 rfl rfl ?_
  by_cases c1_0 : p0 = (0 : Int32)
  · have h := ot c1_0 h
    refine r_tin (tgt := 52) B dX0_isTerm_1 c1_0 (by decide) (by decide) (off := 51) (by decide) (by decide) ?_
    refine r_iload_n (j := 1) B dX0_isTerm_52 rfl rfl ?_
    refine r_iconst (v := 1) B dX0_isTerm_53 (by decide) ?_
    refine r_iconst (v := 5) B dX0_isTerm_54 (by decide) ?_
    obtain ⟨r1, s2, hc3, h⟩ := bnd_e h
    refine r_callSv (As := [vi p1, vi (1 : Int32), vi (5 : Int32)]) (rest := []) B rfl EX.same (c_X0_in B.ge hS hc3) (cw_X0_in rfl rfl) q445 q446 rfl dX0_isTerm_55 ?_
    obtain ⟨hg4, h⟩ := gd_e h
    exact r_zret B dX0_isTerm_58 hg4 h
  · have h := of c1_0 h
    by_cases c1_1 : p0 = (1 : Int32)
    · have h := ot c1_1 h
      refine r_tin (tgt := 59) B dX0_isTerm_1 c1_1 (by decide) (by decide) (off := 58) (by decide) (by decide) ?_
      refine r_iload_n (j := 1) B dX0_isTerm_59 rfl rfl ?_
      refine r_bipush (v := -2) B dX0_isTerm_60 (by decide) ?_
      refine r_iconst (v := 2) B dX0_isTerm_62 (by decide) ?_
      obtain ⟨r5, s6, hc7, h⟩ := bnd_e h
      refine r_callSv (As := [vi p1, vi (-2 : Int32), vi (2 : Int32)]) (rest := []) B rfl EX.same (c_X0_in B.ge hS hc7) (cw_X0_in rfl rfl) q445 q446 rfl dX0_isTerm_63 ?_
      obtain ⟨hg8, h⟩ := gd_e h
      exact r_zret B dX0_isTerm_66 hg8 h
    · have h := of c1_1 h
      by_cases c1_2 : p0 = (2 : Int32)
      · have h := ot c1_2 h
        refine r_tin (tgt := 67) B dX0_isTerm_1 c1_2 (by decide) (by decide) (off := 66) (by decide) (by decide) ?_
        refine r_pick [1] (L' := [(1, vi p1)]) rfl ?_
        exact w_X0_isTerm_67 B hS s p1 h
      · have h := of c1_2 h
        by_cases c1_3 : p0 = (3 : Int32)
        · have h := ot c1_3 h
          refine r_tin (tgt := 75) B dX0_isTerm_1 c1_3 (by decide) (by decide) (off := 74) (by decide) (by decide) ?_
          refine r_iload_n (j := 1) B dX0_isTerm_75 rfl rfl ?_
          refine r_iconst (v := 2) B dX0_isTerm_76 (by decide) ?_
          refine r_iconst (v := 3) B dX0_isTerm_77 (by decide) ?_
          obtain ⟨r9, s10, hc11, h⟩ := bnd_e h
          refine r_callSv (As := [vi p1, vi (2 : Int32), vi (3 : Int32)]) (rest := []) B rfl EX.same (c_X0_in B.ge hS hc11) (cw_X0_in rfl rfl) q445 q446 rfl dX0_isTerm_78 ?_
          obtain ⟨hg12, h⟩ := gd_e h
          exact r_zret B dX0_isTerm_81 hg12 h
        · have h := of c1_3 h
          by_cases c1_4 : p0 = (4 : Int32)
          · have h := ot c1_4 h
            refine r_tin (tgt := 82) B dX0_isTerm_1 c1_4 (by decide) (by decide) (off := 81) (by decide) (by decide) ?_
            refine r_iload_n (j := 1) B dX0_isTerm_82 rfl rfl ?_
            refine r_iconst (v := 0) B dX0_isTerm_83 (by decide) ?_
            refine r_iconst (v := 5) B dX0_isTerm_84 (by decide) ?_
            obtain ⟨r13, s14, hc15, h⟩ := bnd_e h
            refine r_callSv (As := [vi p1, vi (0 : Int32), vi (5 : Int32)]) (rest := []) B rfl EX.same (c_X0_in B.ge hS hc15) (cw_X0_in rfl rfl) q445 q446 rfl dX0_isTerm_85 ?_
            obtain ⟨hg16, h⟩ := gd_e h
            exact r_zret B dX0_isTerm_88 hg16 h
          · have h := of c1_4 h
            by_cases c1_5 : p0 = (5 : Int32)
            · have h := ot c1_5 h
              refine r_tin (tgt := 89) B dX0_isTerm_1 c1_5 (by decide) (by decide) (off := 88) (by decide) (by decide) ?_
              refine r_iload_n (j := 1) B dX0_isTerm_89 rfl rfl ?_
              refine r_iconst (v := 0) B dX0_isTerm_90 (by decide) ?_
              refine r_iconst (v := 2) B dX0_isTerm_91 (by decide) ?_
              obtain ⟨r17, s18, hc19, h⟩ := bnd_e h
              refine r_callSv (As := [vi p1, vi (0 : Int32), vi (2 : Int32)]) (rest := []) B rfl EX.same (c_X0_in B.ge hS hc19) (cw_X0_in rfl rfl) q445 q446 rfl dX0_isTerm_92 ?_
              obtain ⟨hg20, h⟩ := gd_e h
              exact r_zret B dX0_isTerm_95 hg20 h
            · have h := of c1_5 h
              by_cases c1_6 : p0 = (6 : Int32)
              · have h := ot c1_6 h
                refine r_tin (tgt := 96) B dX0_isTerm_1 c1_6 (by decide) (by decide) (off := 95) (by decide) (by decide) ?_
                refine r_iload_n (j := 1) B dX0_isTerm_96 rfl rfl ?_
                refine r_iconst (v := -1) B dX0_isTerm_97 (by decide) ?_
                refine r_bipush (v := 35) B dX0_isTerm_98 (by decide) ?_
                obtain ⟨r21, s22, hc23, h⟩ := bnd_e h
                refine r_callSv (As := [vi p1, vi (-1 : Int32), vi (35 : Int32)]) (rest := []) B rfl EX.same (c_X0_in B.ge hS hc23) (cw_X0_in rfl rfl) q445 q446 rfl dX0_isTerm_100 ?_
                obtain ⟨hg24, h⟩ := gd_e h
                exact r_zret B dX0_isTerm_103 hg24 h
              · have h := of c1_6 h
                by_cases c1_7 : p0 = (7 : Int32)
                · have h := ot c1_7 h
                  refine r_tin (tgt := 67) B dX0_isTerm_1 c1_7 (by decide) (by decide) (off := 66) (by decide) (by decide) ?_
                  refine r_pick [1] (L' := [(1, vi p1)]) rfl ?_
                  exact w_X0_isTerm_67 B hS s p1 h
                · have h := of c1_7 h
                  by_cases c1_8 : p0 = (8 : Int32)
                  · have h := ot c1_8 h
                    refine r_tin (tgt := 104) B dX0_isTerm_1 c1_8 (by decide) (by decide) (off := 103) (by decide) (by decide) ?_
                    refine r_iload_n (j := 1) B dX0_isTerm_104 rfl rfl ?_
                    refine r_iconst (v := 0) B dX0_isTerm_105 (by decide) ?_
                    refine r_bipush (v := 9) B dX0_isTerm_106 (by decide) ?_
                    obtain ⟨r25, s26, hc27, h⟩ := bnd_e h
                    refine r_callSv (As := [vi p1, vi (0 : Int32), vi (9 : Int32)]) (rest := []) B rfl EX.same (c_X0_in B.ge hS hc27) (cw_X0_in rfl rfl) q445 q446 rfl dX0_isTerm_108 ?_
                    obtain ⟨hg28, h⟩ := gd_e h
                    exact r_zret B dX0_isTerm_111 hg28 h
                  · have h := of c1_8 h
                    refine r_tout (tgt := 112) B dX0_isTerm_1 (by have t0 := lv_neT (a := 0) c1_0 (by decide); have t1 := lv_neT (a := 1) c1_1 (by decide); have t2 := lv_neT (a := 2) c1_2 (by decide); have t3 := lv_neT (a := 3) c1_3 (by decide); have t4 := lv_neT (a := 4) c1_4 (by decide); have t5 := lv_neT (a := 5) c1_5 (by decide); have t6 := lv_neT (a := 6) c1_6 (by decide); have t7 := lv_neT (a := 7) c1_7 (by decide); have t8 := lv_neT (a := 8) c1_8 (by decide); omega) (by decide) ?_
                    refine r_iconst (v := 0) B dX0_isTerm_112 (by decide) ?_
                    exact r_zret B dX0_isTerm_113 (by decide) h
set_option maxHeartbeats 4000000 in
theorem cw_X0_isTerm {X : CX} {fr lo : Nat} (h1 : Nat.ble (1 + 1) fr = true) (h2 : Nat.ble (21 + 22) lo = true) : CW X fr lo yX0_isTerm cX0_isTerm 2 (some .boolean) 1 22 2 := ⟨q668, q126, ⟨by decide +kernel, by decide +kernel, by decide +kernel⟩, Nat.le_of_ble_eq_true h1, Nat.le_of_ble_eq_true h2⟩

set_option maxHeartbeats 4000000 in
noncomputable def F_X0_terms (s : St) (p0 : Int32) (p1 : Int32) : Option (Int32 × St) := bnd (F_X0_isTerm s p0 p1) fun r1 s2 => if r1 = 0 then (bnd (F_X0_refuse s2 (-1 : Int32)) fun r11 s12 => some (r11, s12)) else (gd (inb p0 9) <| nam (setI s2 8 p0.toNatClampNeg p1) fun s6 => bnd (F_X0_done s6 (0 : Int32)) fun r8 s9 => some (r8, s9))
set_option maxHeartbeats 4000000 in
theorem c_X0_terms {l : Launch} {E : EV} (hE : GE E) (hS : ∀ σ, eSk E σ ↔ SkC σ) {s s' : St} {r : Int32} {p0 : Int32} {p1 : Int32} (h : F_X0_terms  s p0 p1 = some (r, s')) : CT l E yX0_terms cX0_terms 3 (some .int) 2 43 [vr (some 0), vi p0, vi p1] s (some (vi r)) s' := by
  refine CT.start hE (by decide) rfl [(0, vr (some 0)), (1, vi p0), (2, vi p1)] rfl (fun X hX B => ?_)
  skip
  have B : FX X E cX0_terms 3 (some .int) "RoseThrow" "terms" (sn s) (ss s) 2 43 := B
  unfold F_X0_terms at h
  refine r_iload_n (j := 1) B dX0_terms_0 rfl rfl ?_
  refine r_iload_n (j := 2) B dX0_terms_1 rfl rfl ?_
  obtain ⟨r1, s2, hc3, h⟩ := bnd_e h
  refine r_callSv (As := [vi p0, vi p1]) (rest := []) B rfl EX.same (c_X0_isTerm B.ge hS hc3) (cw_X0_isTerm rfl rfl) q666 q667 rfl dX0_terms_2 ?_
  refine r_if_ne (tgt := 14) B dX0_terms_5 (by decide) (fun cn4 => ?_) (fun cn4 => ?_)
  · have h := of cn4 h
    refine r_aload_n (j := 0) B dX0_terms_14 rfl rfl ?_
    refine g0 (k := 2) B (vr (some 2)) rfl (fun z => by rw [((hS _).1 z).1 0 (by decide)]; rfl) rfl q358 rfl (fun z => by rw [((hS _).1 z).2 _ (List.mem_of_getElem? (i := 1) rfl)]; rfl) dX0_terms_15 ?_
    refine g1N (k := 5) B (vr (some 8)) rfl (fun z => by rw [((hS _).1 z).1 2 (by decide)]; rfl) rfl (lw_n q216 rfl) rfl (fun z => by rw [((hS _).1 z).2 _ (List.mem_of_getElem? (i := 22) rfl)]; rfl) dX0_terms_18 ?_
    refine r_iload_n (j := 1) B dX0_terms_21 rfl rfl ?_
    refine r_iload_n (j := 2) B dX0_terms_22 rfl rfl ?_
    obtain ⟨hg5, h⟩ := gd_e h
    obtain ⟨s6, e7, h⟩ := nam_e h
    refine r_iast B e7 rfl (fun z => ((hS _).1 z).1 8 (by decide)) hg5 dX0_terms_23 ?_
    refine r_aload_n (j := 0) B dX0_terms_24 rfl rfl ?_
    refine r_iconst (v := 0) B dX0_terms_25 (by decide) ?_
    obtain ⟨r8, s9, hc10, h⟩ := bnd_e h
    refine r_callVv (As := [vi (0 : Int32)]) (rest := []) B rfl rfl EX.same (c_X0_done B.ge hS hc10) (cw_X0_done rfl rfl) (fun z => RV.of 0 (by rw [((hS _).1 z).1 0 (by decide)]; rfl) rfl rfl qs3) q533 q535 rfl dX0_terms_26 ?_
    exact r_iret B dX0_terms_29 h
  · have h := ot cn4 h
    refine r_aload_n (j := 0) B dX0_terms_8 rfl rfl ?_
    refine r_iconst (v := -1) B dX0_terms_9 (by decide) ?_
    obtain ⟨r11, s12, hc13, h⟩ := bnd_e h
    refine r_callVv (As := [vi (-1 : Int32)]) (rest := []) B rfl rfl EX.same (c_X0_refuse B.ge hS hc13) (cw_X0_refuse rfl rfl) (fun z => RV.of 0 (by rw [((hS _).1 z).1 0 (by decide)]; rfl) rfl rfl qs1) q448 q450 rfl dX0_terms_10 ?_
    exact r_iret B dX0_terms_13 h
set_option maxHeartbeats 4000000 in
theorem cw_X0_terms {X : CX} {fr lo : Nat} (h1 : Nat.ble (2 + 1) fr = true) (h2 : Nat.ble (22 + 43) lo = true) : CW X fr lo yX0_terms cX0_terms 3 (some .int) 2 43 2 := ⟨q665, q126, ⟨by decide +kernel, by decide +kernel, by decide +kernel⟩, Nat.le_of_ble_eq_true h1, Nat.le_of_ble_eq_true h2⟩

set_option maxHeartbeats 4000000 in
noncomputable def F_X0_four_3 : Nat → St → Int32 → Int32 → Option (Unit × St)
  | 0 => fun _ _ _ => none
  | n + 1 => fun s x1 x2 => if x2 < 0 then (some ((), s)) else (gd (inb (si s 0 11) 400) <| nam (setI s 19 (si s 0 11).toNatClampNeg (vp_nar .byte (((x1 >>> (x2 &&& 31))).toInt8.toInt32))) fun s3 => nam (setI s3 0 11 ((si s3 0 11) + (1 : Int32))) fun s5 => F_X0_four_3  n s5 x1 (x2 + (-8)))
set_option maxHeartbeats 4000000 in
theorem w_X0_four_3 {X : CX} {E : EV} {a0 s' : St} {r : Unit} (B : FX X E cX0_four 3 none "RoseThrow" "four" (sn a0) (ss a0) 0 0) (hS : ∀ σ, eSk E σ ↔ SkC σ) : ∀ (n : Nat) (s : St) (x1 : Int32) (x2 : Int32), F_X0_four_3   n s x1 x2 = some (r, s') → J X E (sn a0) (ss a0) 3 (QR X E a0 none s') s 3 [(0, vr (some 0)), (1, vi x1), (2, vi x2)] [] := by
  intro n
  induction n with
  | zero => intro s x1 x2 h; exact absurd (show (none : Option (Unit × St)) = _ from h) (by simp)
  | succ n ih =>
    intro s x1 x2 h
    rw [F_X0_four_3] at h
    refine r_iload_n (j := 2) B dX0_four_3 rfl rfl ?_
    refine r_if_lt (tgt := 36) B dX0_four_4 (by decide) (fun cn1 => ?_) (fun cn1 => ?_)
    · have h := ot cn1 h
      exact r_vret B dX0_four_36 h
    · have h := of cn1 h
      refine r_aload_n (j := 0) B dX0_four_7 rfl rfl ?_
      refine g0 (k := 10) B (vr (some 19)) rfl (fun z => by rw [((hS _).1 z).1 0 (by decide)]; rfl) rfl q366 rfl (fun z => by rw [((hS _).1 z).2 _ (List.mem_of_getElem? (i := 9) rfl)]; rfl) dX0_four_8 ?_
      refine r_aload_n (j := 0) B dX0_four_11 rfl rfl ?_
      refine g0 (k := 11) B (vi (si s 0 11)) rfl (fun z => by rw [((hS _).1 z).1 0 (by decide)]; rfl) rfl q367 rfl (fun _ => rfl) dX0_four_12 ?_
      refine r_iload_n (j := 1) B dX0_four_15 rfl rfl ?_
      refine r_iload_n (j := 2) B dX0_four_16 rfl rfl ?_
      refine r_ishr B dX0_four_17 ?_
      refine r_i2b B dX0_four_18 ?_
      obtain ⟨hg2, h⟩ := gd_e h
      obtain ⟨s3, e4, h⟩ := nam_e h
      refine r_bast B e4 rfl (fun z => ((hS _).1 z).1 19 (by decide)) hg2 dX0_four_19 ?_
      refine r_aload_n (j := 0) B dX0_four_20 rfl rfl ?_
      refine r_dup B dX0_four_21 rfl ?_
      refine g0 (k := 11) B (vi (si s3 0 11)) rfl (fun z => by rw [((hS _).1 z).1 0 (by decide)]; rfl) rfl q367 rfl (fun _ => rfl) dX0_four_22 ?_
      refine r_iconst (v := 1) B dX0_four_25 (by decide) ?_
      refine r_iadd B dX0_four_26 ?_
      obtain ⟨s5, e6, h⟩ := nam_e h
      refine pI0 (k := 11) B e6 rfl (fun z => by rw [((hS _).1 z).1 0 (by decide)]; rfl) rfl q367 rfl rfl (fun _ _ _ => rfl) rfl dX0_four_27 ?_
      refine r_iinc (j := 2) (v := (x2 + (-8))) (L' := [(0, vr (some 0)), (1, vi x1), (2, vi (x2 + (-8)))]) B dX0_four_30 rfl rfl (by decide) rfl rfl rfl ?_
      refine r_goto (tgt := 3) B dX0_four_33 (by decide) ?_
      exact ih s5 x1 (x2 + (-8)) h
set_option maxHeartbeats 4000000 in
noncomputable def F_X0_four (s : St) (p0 : Int32) : Option (Unit × St) := F_X0_four_3 FU s p0 (24 : Int32)
set_option maxHeartbeats 4000000 in
theorem c_X0_four {l : Launch} {E : EV} (hE : GE E) (hS : ∀ σ, eSk E σ ↔ SkC σ) {s s' : St} {r : Unit} {p0 : Int32} (h : F_X0_four  s p0 = some (r, s')) : CT l E yX0_four cX0_four 3 none 0 0 [vr (some 0), vi p0] s none s' := by
  refine CT.start hE (by decide) rfl [(0, vr (some 0)), (1, vi p0)] rfl (fun X hX B => ?_)
  skip
  have B : FX X E cX0_four 3 none "RoseThrow" "four" (sn s) (ss s) 0 0 := B
  unfold F_X0_four at h
  refine r_bipush (v := 24) B dX0_four_0 (by decide) ?_
  refine r_istore_n (L' := [(0, vr (some 0)), (1, vi p0), (2, vi (24 : Int32))]) B dX0_four_2 rfl (by decide) rfl rfl rfl ?_
  exact w_X0_four_3 B hS FU s p0 (24 : Int32) h
set_option maxHeartbeats 4000000 in
theorem cw_X0_four {X : CX} {fr lo : Nat} (h1 : Nat.ble (0 + 1) fr = true) (h2 : Nat.ble (22 + 0) lo = true) : CW X fr lo yX0_four cX0_four 3 none 0 0 1 := ⟨q676, q126, ⟨by decide +kernel, by decide +kernel, by decide +kernel⟩, Nat.le_of_ble_eq_true h1, Nat.le_of_ble_eq_true h2⟩

set_option maxHeartbeats 4000000 in
noncomputable def F_X0_feed (s : St) (p0 : Int32) (p1 : Int32) (p2 : Int32) (p3 : Int32) (p4 : Int32) : Option (Int32 × St) := if ((si s 0 11) + (20 : Int32)) ≤ (400 : Int32) then (bnd (F_X0_four s p0) fun _ s3 => bnd (F_X0_four s3 p1) fun _ s6 => bnd (F_X0_four s6 p2) fun _ s9 => bnd (F_X0_four s9 p3) fun _ s12 => bnd (F_X0_four s12 p4) fun _ s15 => some ((si s15 0 11), s15)) else (some ((-1 : Int32), s))
set_option maxHeartbeats 4000000 in
theorem c_X0_feed {l : Launch} {E : EV} (hE : GE E) (hS : ∀ σ, eSk E σ ↔ SkC σ) {s s' : St} {r : Int32} {p0 : Int32} {p1 : Int32} {p2 : Int32} {p3 : Int32} {p4 : Int32} (h : F_X0_feed  s p0 p1 p2 p3 p4 = some (r, s')) : CT l E yX0_feed cX0_feed 6 (some .int) 1 22 [vr (some 0), vi p0, vi p1, vi p2, vi p3, vi p4] s (some (vi r)) s' := by
  refine CT.start hE (by decide) rfl [(0, vr (some 0)), (1, vi p0), (2, vi p1), (3, vi p2), (4, vi p3), (5, vi p4)] rfl (fun X hX B => ?_)
  skip
  have B : FX X E cX0_feed 6 (some .int) "RoseThrow" "feed" (sn s) (ss s) 1 22 := B
  unfold F_X0_feed at h
  refine r_aload_n (j := 0) B dX0_feed_0 rfl rfl ?_
  refine g0 (k := 11) B (vi (si s 0 11)) rfl (fun z => by rw [((hS _).1 z).1 0 (by decide)]; rfl) rfl q367 rfl (fun _ => rfl) dX0_feed_1 ?_
  refine r_bipush (v := 20) B dX0_feed_4 (by decide) ?_
  refine r_iadd B dX0_feed_6 ?_
  refine r_sipush (v := 400) B dX0_feed_7 (by decide) ?_
  refine r_ic_le (tgt := 15) B dX0_feed_10 (by decide) (fun cn1 => ?_) (fun cn1 => ?_)
  · have h := ot cn1 h
    refine r_aload_n (j := 0) B dX0_feed_15 rfl rfl ?_
    refine r_iload_n (j := 1) B dX0_feed_16 rfl rfl ?_
    obtain ⟨r2, s3, hc4, h⟩ := bnd_e h
    refine r_callV0 (As := [vi p0]) (rest := []) B rfl rfl EX.same (c_X0_four B.ge hS hc4) (cw_X0_four rfl rfl) (fun z => RV.of 0 (by rw [((hS _).1 z).1 0 (by decide)]; rfl) rfl rfl qs13) q673 q675 rfl dX0_feed_17 ?_
    refine r_aload_n (j := 0) B dX0_feed_20 rfl rfl ?_
    refine r_iload_n (j := 2) B dX0_feed_21 rfl rfl ?_
    obtain ⟨r5, s6, hc7, h⟩ := bnd_e h
    refine r_callV0 (As := [vi p1]) (rest := []) B rfl rfl EX.same (c_X0_four B.ge hS hc7) (cw_X0_four rfl rfl) (fun z => RV.of 0 (by rw [((hS _).1 z).1 0 (by decide)]; rfl) rfl rfl qs13) q673 q675 rfl dX0_feed_22 ?_
    refine r_aload_n (j := 0) B dX0_feed_25 rfl rfl ?_
    refine r_iload_n (j := 3) B dX0_feed_26 rfl rfl ?_
    obtain ⟨r8, s9, hc10, h⟩ := bnd_e h
    refine r_callV0 (As := [vi p2]) (rest := []) B rfl rfl EX.same (c_X0_four B.ge hS hc10) (cw_X0_four rfl rfl) (fun z => RV.of 0 (by rw [((hS _).1 z).1 0 (by decide)]; rfl) rfl rfl qs13) q673 q675 rfl dX0_feed_27 ?_
    refine r_aload_n (j := 0) B dX0_feed_30 rfl rfl ?_
    refine r_iload (j := 4) B dX0_feed_31 rfl ?_
    obtain ⟨r11, s12, hc13, h⟩ := bnd_e h
    refine r_callV0 (As := [vi p3]) (rest := []) B rfl rfl EX.same (c_X0_four B.ge hS hc13) (cw_X0_four rfl rfl) (fun z => RV.of 0 (by rw [((hS _).1 z).1 0 (by decide)]; rfl) rfl rfl qs13) q673 q675 rfl dX0_feed_33 ?_
    refine r_aload_n (j := 0) B dX0_feed_36 rfl rfl ?_
    refine r_iload (j := 5) B dX0_feed_37 rfl ?_
    obtain ⟨r14, s15, hc16, h⟩ := bnd_e h
    refine r_callV0 (As := [vi p4]) (rest := []) B rfl rfl EX.same (c_X0_four B.ge hS hc16) (cw_X0_four rfl rfl) (fun z => RV.of 0 (by rw [((hS _).1 z).1 0 (by decide)]; rfl) rfl rfl qs13) q673 q675 rfl dX0_feed_39 ?_
    refine r_aload_n (j := 0) B dX0_feed_42 rfl rfl ?_
    refine g0 (k := 11) B (vi (si s15 0 11)) rfl (fun z => by rw [((hS _).1 z).1 0 (by decide)]; rfl) rfl q367 rfl (fun _ => rfl) dX0_feed_43 ?_
    exact r_iret B dX0_feed_46 h
  · have h := of cn1 h
    refine r_iconst (v := -1) B dX0_feed_13 (by decide) ?_
    exact r_iret B dX0_feed_14 h
set_option maxHeartbeats 4000000 in
theorem cw_X0_feed {X : CX} {fr lo : Nat} (h1 : Nat.ble (1 + 1) fr = true) (h2 : Nat.ble (25 + 22) lo = true) : CW X fr lo yX0_feed cX0_feed 6 (some .int) 1 22 5 := ⟨q672, q126, ⟨by decide +kernel, by decide +kernel, by decide +kernel⟩, Nat.le_of_ble_eq_true h1, Nat.le_of_ble_eq_true h2⟩

set_option maxHeartbeats 4000000 in
noncomputable def F_X0_end (s : St) (p0 : Int32) : Option (Int32 × St) := if p0 < 0 then (some ((-1 : Int32), s)) else (if p0 ≤ (si s 0 11) then (nam (setI s 0 11 p0) fun s3 => some (p0, s3)) else (some ((-1 : Int32), s)))
set_option maxHeartbeats 4000000 in
theorem c_X0_end {l : Launch} {E : EV} (hE : GE E) (hS : ∀ σ, eSk E σ ↔ SkC σ) {s s' : St} {r : Int32} {p0 : Int32} (h : F_X0_end  s p0 = some (r, s')) : CT l E yX0_end cX0_end 2 (some .int) 0 0 [vr (some 0), vi p0] s (some (vi r)) s' := by
  refine CT.start hE (by decide) rfl [(0, vr (some 0)), (1, vi p0)] rfl (fun X hX B => ?_)
  skip
  have B : FX X E cX0_end 2 (some .int) "RoseThrow" "end" (sn s) (ss s) 0 0 := B
  unfold F_X0_end at h
  refine r_iload_n (j := 1) B dX0_end_0 rfl rfl ?_
  refine r_if_lt (tgt := 12) B dX0_end_1 (by decide) (fun cn1 => ?_) (fun cn1 => ?_)
  · have h := ot cn1 h
    refine r_iconst (v := -1) B dX0_end_12 (by decide) ?_
    exact r_iret B dX0_end_13 h
  · have h := of cn1 h
    refine r_iload_n (j := 1) B dX0_end_4 rfl rfl ?_
    refine r_aload_n (j := 0) B dX0_end_5 rfl rfl ?_
    refine g0 (k := 11) B (vi (si s 0 11)) rfl (fun z => by rw [((hS _).1 z).1 0 (by decide)]; rfl) rfl q367 rfl (fun _ => rfl) dX0_end_6 ?_
    refine r_ic_le (tgt := 14) B dX0_end_9 (by decide) (fun cn2 => ?_) (fun cn2 => ?_)
    · have h := ot cn2 h
      refine r_aload_n (j := 0) B dX0_end_14 rfl rfl ?_
      refine r_iload_n (j := 1) B dX0_end_15 rfl rfl ?_
      obtain ⟨s3, e4, h⟩ := nam_e h
      refine pI0 (k := 11) B e4 rfl (fun z => by rw [((hS _).1 z).1 0 (by decide)]; rfl) rfl q367 rfl rfl (fun _ _ _ => rfl) rfl dX0_end_16 ?_
      refine r_iload_n (j := 1) B dX0_end_19 rfl rfl ?_
      exact r_iret B dX0_end_20 h
    · have h := of cn2 h
      refine r_iconst (v := -1) B dX0_end_12 (by decide) ?_
      exact r_iret B dX0_end_13 h
set_option maxHeartbeats 4000000 in
theorem cw_X0_end {X : CX} {fr lo : Nat} (h1 : Nat.ble (0 + 1) fr = true) (h2 : Nat.ble (21 + 0) lo = true) : CW X fr lo yX0_end cX0_end 2 (some .int) 0 0 1 := ⟨q680, q126, ⟨by decide +kernel, by decide +kernel, by decide +kernel⟩, Nat.le_of_ble_eq_true h1, Nat.le_of_ble_eq_true h2⟩

set_option maxHeartbeats 4000000 in
noncomputable def F_X0_row_136 (k40 : St → Int32 → Int32 → Int32 → Option (Int32 × St)) (s : St) (x1 : Int32) (x2 : Int32) (x3 : Int32) (z0 : Int32) (z1 : Int32) : Option (Int32 × St) := nam (setI s 0 13 (z1 + z0)) fun s1 => k40 s1 x1 x2 (x3 + (4))
set_option maxHeartbeats 4000000 in
theorem w_X0_row_136 {X : CX} {E : EV} {a0 s' : St} {r : Int32} (B : FX X E cX0_row 5 (some .int) "RoseThrow" "row" (sn a0) (ss a0) 245 13719) (hS : ∀ σ, eSk E σ ↔ SkC σ) (k40 : St → Int32 → Int32 → Int32 → Option (Int32 × St)) (hk40 : ∀ (s : St) (x1 : Int32) (x2 : Int32) (x3 : Int32), k40 s x1 x2 x3 = some (r, s') → J X E (sn a0) (ss a0) 5 (QR X E a0 (some (vi r)) s') s 40 [(0, vr (some 0)), (1, vi x1), (2, vi x2), (3, vi x3)] []) (s : St) (x1 : Int32) (x2 : Int32) (x3 : Int32) (z0 : Int32) (z1 : Int32) (h : F_X0_row_136  k40 s x1 x2 x3 z0 z1 = some (r, s')) : J X E (sn a0) (ss a0) 5 (QR X E a0 (some (vi r)) s') s 136 [(0, vr (some 0)), (1, vi x1), (2, vi x2), (3, vi x3)] [vi z0, vi z1, vr (some 0)] := by
  unfold F_X0_row_136 at h
  refine r_iadd B dX0_row_136 ?_
  obtain ⟨s1, e2, h⟩ := nam_e h
  refine pI0 (k := 13) B e2 rfl (fun z => by rw [((hS _).1 z).1 0 (by decide)]; rfl) rfl q369 rfl rfl (fun _ _ _ => rfl) rfl dX0_row_137 ?_
  refine r_iinc (j := 3) (v := (x3 + (4))) (L' := [(0, vr (some 0)), (1, vi x1), (2, vi x2), (3, vi (x3 + (4)))]) B dX0_row_140 rfl rfl (by decide) rfl rfl rfl ?_
  refine r_goto (tgt := 40) B dX0_row_143 (by decide) ?_
  exact hk40 s1 x1 x2 (x3 + (4)) h
set_option maxHeartbeats 4000000 in
noncomputable def F_X0_row_119 (k40 : St → Int32 → Int32 → Int32 → Option (Int32 × St)) (s : St) (x1 : Int32) (x3 : Int32) (x4 : Int32) (z0 : Int32) (z1 : Int32) : Option (Int32 × St) := if x4 = 0 then (F_X0_row_136 k40 s x1 (z1 + z0) x3 (1 : Int32) (si s 0 13)) else (F_X0_row_136 k40 s x1 (z1 + z0) x3 (0 : Int32) (si s 0 13))
set_option maxHeartbeats 4000000 in
theorem w_X0_row_119 {X : CX} {E : EV} {a0 s' : St} {r : Int32} (B : FX X E cX0_row 5 (some .int) "RoseThrow" "row" (sn a0) (ss a0) 245 13719) (hS : ∀ σ, eSk E σ ↔ SkC σ) (k40 : St → Int32 → Int32 → Int32 → Option (Int32 × St)) (hk40 : ∀ (s : St) (x1 : Int32) (x2 : Int32) (x3 : Int32), k40 s x1 x2 x3 = some (r, s') → J X E (sn a0) (ss a0) 5 (QR X E a0 (some (vi r)) s') s 40 [(0, vr (some 0)), (1, vi x1), (2, vi x2), (3, vi x3)] []) (s : St) (x1 : Int32) (x3 : Int32) (x4 : Int32) (z0 : Int32) (z1 : Int32) (h : F_X0_row_119  k40 s x1 x3 x4 z0 z1 = some (r, s')) : J X E (sn a0) (ss a0) 5 (QR X E a0 (some (vi r)) s') s 119 [(0, vr (some 0)), (1, vi x1), (3, vi x3), (4, vi x4)] [vi z0, vi z1] := by
  unfold F_X0_row_119 at h
  refine r_iadd B dX0_row_119 ?_
  refine r_istore_n (L' := [(0, vr (some 0)), (1, vi x1), (2, vi (z1 + z0)), (3, vi x3), (4, vi x4)]) B dX0_row_120 rfl (by decide) rfl rfl rfl ?_
  refine r_aload_n (j := 0) B dX0_row_121 rfl rfl ?_
  refine r_dup B dX0_row_122 rfl ?_
  refine g0 (k := 13) B (vi (si s 0 13)) rfl (fun z => by rw [((hS _).1 z).1 0 (by decide)]; rfl) rfl q369 rfl (fun _ => rfl) dX0_row_123 ?_
  refine r_iload (j := 4) B dX0_row_126 rfl ?_
  refine r_if_eq (tgt := 135) B dX0_row_128 (by decide) (fun cn1 => ?_) (fun cn1 => ?_)
  · have h := ot cn1 h
    refine r_iconst (v := 1) B dX0_row_135 (by decide) ?_
    refine r_pick [0, 1, 2, 3] (L' := [(0, vr (some 0)), (1, vi x1), (2, vi (z1 + z0)), (3, vi x3)]) rfl ?_
    exact w_X0_row_136 B hS k40 hk40 s x1 (z1 + z0) x3 (1 : Int32) (si s 0 13) h
  · have h := of cn1 h
    refine r_iconst (v := 0) B dX0_row_131 (by decide) ?_
    refine r_goto (tgt := 136) B dX0_row_132 (by decide) ?_
    refine r_pick [0, 1, 2, 3] (L' := [(0, vr (some 0)), (1, vi x1), (2, vi (z1 + z0)), (3, vi x3)]) rfl ?_
    exact w_X0_row_136 B hS k40 hk40 s x1 (z1 + z0) x3 (0 : Int32) (si s 0 13) h
set_option maxHeartbeats 4000000 in
noncomputable def F_X0_row_106 (k40 : St → Int32 → Int32 → Int32 → Option (Int32 × St)) (s : St) (x1 : Int32) (x2 : Int32) (x3 : Int32) (z0 : Int32) : Option (Int32 × St) := if z0 = 0 then (F_X0_row_119 k40 s x1 x3 z0 (0 : Int32) x2) else (F_X0_row_119 k40 s x1 x3 z0 (1 : Int32) x2)
set_option maxHeartbeats 4000000 in
theorem w_X0_row_106 {X : CX} {E : EV} {a0 s' : St} {r : Int32} (B : FX X E cX0_row 5 (some .int) "RoseThrow" "row" (sn a0) (ss a0) 245 13719) (hS : ∀ σ, eSk E σ ↔ SkC σ) (k40 : St → Int32 → Int32 → Int32 → Option (Int32 × St)) (hk40 : ∀ (s : St) (x1 : Int32) (x2 : Int32) (x3 : Int32), k40 s x1 x2 x3 = some (r, s') → J X E (sn a0) (ss a0) 5 (QR X E a0 (some (vi r)) s') s 40 [(0, vr (some 0)), (1, vi x1), (2, vi x2), (3, vi x3)] []) (s : St) (x1 : Int32) (x2 : Int32) (x3 : Int32) (z0 : Int32) (h : F_X0_row_106  k40 s x1 x2 x3 z0 = some (r, s')) : J X E (sn a0) (ss a0) 5 (QR X E a0 (some (vi r)) s') s 106 [(0, vr (some 0)), (1, vi x1), (2, vi x2), (3, vi x3)] [vi z0] := by
  unfold F_X0_row_106 at h
  refine r_istore (L' := [(0, vr (some 0)), (1, vi x1), (2, vi x2), (3, vi x3), (4, vi z0)]) B dX0_row_106 (by decide) rfl rfl rfl ?_
  refine r_iload_n (j := 2) B dX0_row_108 rfl rfl ?_
  refine r_iload (j := 4) B dX0_row_109 rfl ?_
  refine r_if_eq (tgt := 118) B dX0_row_111 (by decide) (fun cn1 => ?_) (fun cn1 => ?_)
  · have h := ot cn1 h
    refine r_iconst (v := 0) B dX0_row_118 (by decide) ?_
    refine r_pick [0, 1, 3, 4] (L' := [(0, vr (some 0)), (1, vi x1), (3, vi x3), (4, vi z0)]) rfl ?_
    exact w_X0_row_119 B hS k40 hk40 s x1 x3 z0 (0 : Int32) x2 h
  · have h := of cn1 h
    refine r_iconst (v := 1) B dX0_row_114 (by decide) ?_
    refine r_goto (tgt := 119) B dX0_row_115 (by decide) ?_
    refine r_pick [0, 1, 3, 4] (L' := [(0, vr (some 0)), (1, vi x1), (3, vi x3), (4, vi z0)]) rfl ?_
    exact w_X0_row_119 B hS k40 hk40 s x1 x3 z0 (1 : Int32) x2 h
set_option maxHeartbeats 4000000 in
noncomputable def F_X0_row_105 (k40 : St → Int32 → Int32 → Int32 → Option (Int32 × St)) (s : St) (x1 : Int32) (x2 : Int32) (x3 : Int32) : Option (Int32 × St) := F_X0_row_106 k40 s x1 x2 x3 (0 : Int32)
set_option maxHeartbeats 4000000 in
theorem w_X0_row_105 {X : CX} {E : EV} {a0 s' : St} {r : Int32} (B : FX X E cX0_row 5 (some .int) "RoseThrow" "row" (sn a0) (ss a0) 245 13719) (hS : ∀ σ, eSk E σ ↔ SkC σ) (k40 : St → Int32 → Int32 → Int32 → Option (Int32 × St)) (hk40 : ∀ (s : St) (x1 : Int32) (x2 : Int32) (x3 : Int32), k40 s x1 x2 x3 = some (r, s') → J X E (sn a0) (ss a0) 5 (QR X E a0 (some (vi r)) s') s 40 [(0, vr (some 0)), (1, vi x1), (2, vi x2), (3, vi x3)] []) (s : St) (x1 : Int32) (x2 : Int32) (x3 : Int32) (h : F_X0_row_105  k40 s x1 x2 x3 = some (r, s')) : J X E (sn a0) (ss a0) 5 (QR X E a0 (some (vi r)) s') s 105 [(0, vr (some 0)), (1, vi x1), (2, vi x2), (3, vi x3)] [] := by
  unfold F_X0_row_105 at h
  refine r_iconst (v := 0) B dX0_row_105 (by decide) ?_
  exact w_X0_row_106 B hS k40 hk40 s x1 x2 x3 (0 : Int32) h
set_option maxHeartbeats 4000000 in
noncomputable def F_X0_row_40 : Nat → St → Int32 → Int32 → Int32 → Option (Int32 × St)
  | 0 => fun _ _ _ _ => none
  | n + 1 => fun s x1 x2 x3 => if x1 < (x3 + (4 : Int32)) then (bnd (F_X0_settled s x2) fun r2 s3 => some (r2, s3)) else (gd (inb (x3 + (2 : Int32)) 400) <| bnd (F_X0_in s (si s 19 (x3 + (2 : Int32)).toNatClampNeg) (0 : Int32) (9 : Int32)) fun r6 s7 => if r6 = 0 then (F_X0_row_105 (F_X0_row_40  n) s7 x1 x2 x3) else (gd (inb x3 400) <| gd (inb (x3 + (1 : Int32)) 400) <| gd (inb (x3 + (2 : Int32)) 400) <| gd (inb (x3 + (3 : Int32)) 400) <| bnd (F_X0_comesIn s7 (si s7 19 x3.toNatClampNeg) (si s7 19 (x3 + (1 : Int32)).toNatClampNeg) (si s7 19 (x3 + (2 : Int32)).toNatClampNeg) (si s7 19 (x3 + (3 : Int32)).toNatClampNeg)) fun r14 s15 => if r14 = 0 then (F_X0_row_106 (F_X0_row_40  n) s15 x1 x2 x3 (1 : Int32)) else (F_X0_row_105 (F_X0_row_40  n) s15 x1 x2 x3)))
set_option maxHeartbeats 4000000 in
theorem w_X0_row_40 {X : CX} {E : EV} {a0 s' : St} {r : Int32} (B : FX X E cX0_row 5 (some .int) "RoseThrow" "row" (sn a0) (ss a0) 245 13719) (hS : ∀ σ, eSk E σ ↔ SkC σ) : ∀ (n : Nat) (s : St) (x1 : Int32) (x2 : Int32) (x3 : Int32), F_X0_row_40   n s x1 x2 x3 = some (r, s') → J X E (sn a0) (ss a0) 5 (QR X E a0 (some (vi r)) s') s 40 [(0, vr (some 0)), (1, vi x1), (2, vi x2), (3, vi x3)] [] := by
  intro n
  induction n with
  | zero => intro s x1 x2 x3 h; exact absurd (show (none : Option (Int32 × St)) = _ from h) (by simp)
  | succ n ih =>
    intro s x1 x2 x3 h
    rw [F_X0_row_40] at h
    refine r_iload_n (j := 3) B dX0_row_40 rfl rfl ?_
    refine r_iconst (v := 4) B dX0_row_41 (by decide) ?_
    refine r_iadd B dX0_row_42 ?_
    refine r_iload_n (j := 1) B dX0_row_43 rfl rfl ?_
    refine r_ic_gt (tgt := 146) B dX0_row_44 (by decide) (fun cn1 => ?_) (fun cn1 => ?_)
    · have h := ot cn1 h
      refine r_aload_n (j := 0) B dX0_row_146 rfl rfl ?_
      refine r_iload_n (j := 2) B dX0_row_147 rfl rfl ?_
      obtain ⟨r2, s3, hc4, h⟩ := bnd_e h
      refine r_callVv (As := [vi x2]) (rest := []) B rfl rfl EX.same (c_X0_settled B.ge hS hc4) (cw_X0_settled rfl rfl) (fun z => RV.of 0 (by rw [((hS _).1 z).1 0 (by decide)]; rfl) rfl rfl qs4) q541 q543 rfl dX0_row_148 ?_
      exact r_iret B dX0_row_151 h
    · have h := of cn1 h
      refine r_aload_n (j := 0) B dX0_row_47 rfl rfl ?_
      refine g0 (k := 10) B (vr (some 19)) rfl (fun z => by rw [((hS _).1 z).1 0 (by decide)]; rfl) rfl q366 rfl (fun z => by rw [((hS _).1 z).2 _ (List.mem_of_getElem? (i := 9) rfl)]; rfl) dX0_row_48 ?_
      refine r_iload_n (j := 3) B dX0_row_51 rfl rfl ?_
      refine r_iconst (v := 2) B dX0_row_52 (by decide) ?_
      refine r_iadd B dX0_row_53 ?_
      obtain ⟨hg5, h⟩ := gd_e h
      refine r_bald B rfl (fun z => ((hS _).1 z).1 19 (by decide)) hg5 dX0_row_54 ?_
      refine r_iconst (v := 0) B dX0_row_55 (by decide) ?_
      refine r_bipush (v := 9) B dX0_row_56 (by decide) ?_
      obtain ⟨r6, s7, hc8, h⟩ := bnd_e h
      refine r_callSv (As := [vi (si s 19 (x3 + (2 : Int32)).toNatClampNeg), vi (0 : Int32), vi (9 : Int32)]) (rest := []) B rfl EX.same (c_X0_in B.ge hS hc8) (cw_X0_in rfl rfl) q445 q446 rfl dX0_row_58 ?_
      refine r_if_eq (tgt := 105) B dX0_row_61 (by decide) (fun cn9 => ?_) (fun cn9 => ?_)
      · have h := ot cn9 h
        exact w_X0_row_105 B hS (F_X0_row_40  n) ih s7 x1 x2 x3 h
      · have h := of cn9 h
        refine r_aload_n (j := 0) B dX0_row_64 rfl rfl ?_
        refine r_aload_n (j := 0) B dX0_row_65 rfl rfl ?_
        refine g0 (k := 10) B (vr (some 19)) rfl (fun z => by rw [((hS _).1 z).1 0 (by decide)]; rfl) rfl q366 rfl (fun z => by rw [((hS _).1 z).2 _ (List.mem_of_getElem? (i := 9) rfl)]; rfl) dX0_row_66 ?_
        refine r_iload_n (j := 3) B dX0_row_69 rfl rfl ?_
        obtain ⟨hg10, h⟩ := gd_e h
        refine r_bald B rfl (fun z => ((hS _).1 z).1 19 (by decide)) hg10 dX0_row_70 ?_
        refine r_aload_n (j := 0) B dX0_row_71 rfl rfl ?_
        refine g0 (k := 10) B (vr (some 19)) rfl (fun z => by rw [((hS _).1 z).1 0 (by decide)]; rfl) rfl q366 rfl (fun z => by rw [((hS _).1 z).2 _ (List.mem_of_getElem? (i := 9) rfl)]; rfl) dX0_row_72 ?_
        refine r_iload_n (j := 3) B dX0_row_75 rfl rfl ?_
        refine r_iconst (v := 1) B dX0_row_76 (by decide) ?_
        refine r_iadd B dX0_row_77 ?_
        obtain ⟨hg11, h⟩ := gd_e h
        refine r_bald B rfl (fun z => ((hS _).1 z).1 19 (by decide)) hg11 dX0_row_78 ?_
        refine r_aload_n (j := 0) B dX0_row_79 rfl rfl ?_
        refine g0 (k := 10) B (vr (some 19)) rfl (fun z => by rw [((hS _).1 z).1 0 (by decide)]; rfl) rfl q366 rfl (fun z => by rw [((hS _).1 z).2 _ (List.mem_of_getElem? (i := 9) rfl)]; rfl) dX0_row_80 ?_
        refine r_iload_n (j := 3) B dX0_row_83 rfl rfl ?_
        refine r_iconst (v := 2) B dX0_row_84 (by decide) ?_
        refine r_iadd B dX0_row_85 ?_
        obtain ⟨hg12, h⟩ := gd_e h
        refine r_bald B rfl (fun z => ((hS _).1 z).1 19 (by decide)) hg12 dX0_row_86 ?_
        refine r_aload_n (j := 0) B dX0_row_87 rfl rfl ?_
        refine g0 (k := 10) B (vr (some 19)) rfl (fun z => by rw [((hS _).1 z).1 0 (by decide)]; rfl) rfl q366 rfl (fun z => by rw [((hS _).1 z).2 _ (List.mem_of_getElem? (i := 9) rfl)]; rfl) dX0_row_88 ?_
        refine r_iload_n (j := 3) B dX0_row_91 rfl rfl ?_
        refine r_iconst (v := 3) B dX0_row_92 (by decide) ?_
        refine r_iadd B dX0_row_93 ?_
        obtain ⟨hg13, h⟩ := gd_e h
        refine r_bald B rfl (fun z => ((hS _).1 z).1 19 (by decide)) hg13 dX0_row_94 ?_
        obtain ⟨r14, s15, hc16, h⟩ := bnd_e h
        refine r_callVv (As := [vi (si s7 19 x3.toNatClampNeg), vi (si s7 19 (x3 + (1 : Int32)).toNatClampNeg), vi (si s7 19 (x3 + (2 : Int32)).toNatClampNeg), vi (si s7 19 (x3 + (3 : Int32)).toNatClampNeg)]) (rest := []) B rfl rfl EX.same (c_X0_comesIn B.ge hS hc16) (cw_X0_comesIn rfl rfl) (fun z => RV.of 0 (by rw [((hS _).1 z).1 0 (by decide)]; rfl) rfl rfl qs5) q549 q551 rfl dX0_row_95 ?_
        refine r_if_ne (tgt := 105) B dX0_row_98 (by decide) (fun cn17 => ?_) (fun cn17 => ?_)
        · have h := of cn17 h
          exact w_X0_row_105 B hS (F_X0_row_40  n) ih s15 x1 x2 x3 h
        · have h := ot cn17 h
          refine r_iconst (v := 1) B dX0_row_101 (by decide) ?_
          refine r_goto (tgt := 106) B dX0_row_102 (by decide) ?_
          exact w_X0_row_106 B hS (F_X0_row_40  n) ih s15 x1 x2 x3 (1 : Int32) h
set_option maxHeartbeats 4000000 in
noncomputable def F_X0_row_35 (s : St) (x1 : Int32) (x2 : Int32) (z0 : Int32) : Option (Int32 × St) := nam (setI s 0 13 z0) fun s1 => F_X0_row_40 FU s1 x1 x2 (0 : Int32)
set_option maxHeartbeats 4000000 in
theorem w_X0_row_35 {X : CX} {E : EV} {a0 s' : St} {r : Int32} (B : FX X E cX0_row 5 (some .int) "RoseThrow" "row" (sn a0) (ss a0) 245 13719) (hS : ∀ σ, eSk E σ ↔ SkC σ) (s : St) (x1 : Int32) (x2 : Int32) (z0 : Int32) (h : F_X0_row_35   s x1 x2 z0 = some (r, s')) : J X E (sn a0) (ss a0) 5 (QR X E a0 (some (vi r)) s') s 35 [(0, vr (some 0)), (1, vi x1), (2, vi x2)] [vi z0, vr (some 0)] := by
  unfold F_X0_row_35 at h
  obtain ⟨s1, e2, h⟩ := nam_e h
  refine pI0 (k := 13) B e2 rfl (fun z => by rw [((hS _).1 z).1 0 (by decide)]; rfl) rfl q369 rfl rfl (fun _ _ _ => rfl) rfl dX0_row_35 ?_
  refine r_iconst (v := 0) B dX0_row_38 (by decide) ?_
  refine r_istore_n (L' := [(0, vr (some 0)), (1, vi x1), (2, vi x2), (3, vi (0 : Int32))]) B dX0_row_39 rfl (by decide) rfl rfl rfl ?_
  exact w_X0_row_40 B hS FU s1 x1 x2 (0 : Int32) h
set_option maxHeartbeats 4000000 in
noncomputable def F_X0_row (s : St)  : Option (Int32 × St) := nam (setI s 0 11 (0 : Int32)) fun s1 => if (si s 0 11) = 0 then (bnd (F_X0_refuse s1 (-6 : Int32)) fun r5 s6 => some (r5, s6)) else (if ((si s 0 11) - (si s 0 11) / (4 : Int32) * (4 : Int32)) = 0 then (F_X0_row_35 s1 (si s 0 11) (0 : Int32) (0 : Int32)) else (F_X0_row_35 s1 (si s 0 11) (0 : Int32) (1 : Int32)))
set_option maxHeartbeats 4000000 in
theorem c_X0_row {l : Launch} {E : EV} (hE : GE E) (hS : ∀ σ, eSk E σ ↔ SkC σ) {s s' : St} {r : Int32}  (h : F_X0_row  s  = some (r, s')) : CT l E yX0_row cX0_row 5 (some .int) 245 13719 [vr (some 0)] s (some (vi r)) s' := by
  refine CT.start hE (by decide) rfl [(0, vr (some 0))] rfl (fun X hX B => ?_)
  skip
  have B : FX X E cX0_row 5 (some .int) "RoseThrow" "row" (sn s) (ss s) 245 13719 := B
  unfold F_X0_row at h
  refine r_aload_n (j := 0) B dX0_row_0 rfl rfl ?_
  refine g0 (k := 11) B (vi (si s 0 11)) rfl (fun z => by rw [((hS _).1 z).1 0 (by decide)]; rfl) rfl q367 rfl (fun _ => rfl) dX0_row_1 ?_
  refine r_istore_n (L' := [(0, vr (some 0)), (1, vi (si s 0 11))]) B dX0_row_4 rfl (by decide) rfl rfl rfl ?_
  refine r_aload_n (j := 0) B dX0_row_5 rfl rfl ?_
  refine r_iconst (v := 0) B dX0_row_6 (by decide) ?_
  obtain ⟨s1, e2, h⟩ := nam_e h
  refine pI0 (k := 11) B e2 rfl (fun z => by rw [((hS _).1 z).1 0 (by decide)]; rfl) rfl q367 rfl rfl (fun _ _ _ => rfl) rfl dX0_row_7 ?_
  refine r_iload_n (j := 1) B dX0_row_10 rfl rfl ?_
  refine r_if_ne (tgt := 21) B dX0_row_11 (by decide) (fun cn3 => ?_) (fun cn3 => ?_)
  · have h := of cn3 h
    refine r_iconst (v := 0) B dX0_row_21 (by decide) ?_
    refine r_istore_n (L' := [(0, vr (some 0)), (1, vi (si s 0 11)), (2, vi (0 : Int32))]) B dX0_row_22 rfl (by decide) rfl rfl rfl ?_
    refine r_aload_n (j := 0) B dX0_row_23 rfl rfl ?_
    refine r_iload_n (j := 1) B dX0_row_24 rfl rfl ?_
    refine r_iconst (v := 4) B dX0_row_25 (by decide) ?_
    refine r_irem B dX0_row_26 (by decide) ?_
    refine r_if_ne (tgt := 34) B dX0_row_27 (by decide) (fun cn4 => ?_) (fun cn4 => ?_)
    · have h := of cn4 h
      refine r_iconst (v := 1) B dX0_row_34 (by decide) ?_
      exact w_X0_row_35 B hS s1 (si s 0 11) (0 : Int32) (1 : Int32) h
    · have h := ot cn4 h
      refine r_iconst (v := 0) B dX0_row_30 (by decide) ?_
      refine r_goto (tgt := 35) B dX0_row_31 (by decide) ?_
      exact w_X0_row_35 B hS s1 (si s 0 11) (0 : Int32) (0 : Int32) h
  · have h := ot cn3 h
    refine r_aload_n (j := 0) B dX0_row_14 rfl rfl ?_
    refine r_bipush (v := -6) B dX0_row_15 (by decide) ?_
    obtain ⟨r5, s6, hc7, h⟩ := bnd_e h
    refine r_callVv (As := [vi (-6 : Int32)]) (rest := []) B rfl rfl EX.same (c_X0_refuse B.ge hS hc7) (cw_X0_refuse rfl rfl) (fun z => RV.of 0 (by rw [((hS _).1 z).1 0 (by decide)]; rfl) rfl rfl qs1) q448 q450 rfl dX0_row_17 ?_
    exact r_iret B dX0_row_20 h
set_option maxHeartbeats 4000000 in
theorem cw_X0_row {X : CX} {fr lo : Nat} (h1 : Nat.ble (245 + 1) fr = true) (h2 : Nat.ble (24 + 13719) lo = true) : CW X fr lo yX0_row cX0_row 5 (some .int) 245 13719 0 := ⟨q684, q126, ⟨by decide +kernel, by decide +kernel, by decide +kernel⟩, Nat.le_of_ble_eq_true h1, Nat.le_of_ble_eq_true h2⟩

set_option maxHeartbeats 4000000 in
noncomputable def F_X0_rice (s : St)  : Option (Int32 × St) := some ((si s 0 13), s)
set_option maxHeartbeats 4000000 in
theorem c_X0_rice {l : Launch} {E : EV} (hE : GE E) (hS : ∀ σ, eSk E σ ↔ SkC σ) {s s' : St} {r : Int32}  (h : F_X0_rice  s  = some (r, s')) : CT l E yX0_rice cX0_rice 1 (some .int) 0 0 [vr (some 0)] s (some (vi r)) s' := by
  refine CT.start hE (by decide) rfl [(0, vr (some 0))] rfl (fun X hX B => ?_)
  skip
  have B : FX X E cX0_rice 1 (some .int) "RoseThrow" "rice" (sn s) (ss s) 0 0 := B
  unfold F_X0_rice at h
  refine r_aload_n (j := 0) B dX0_rice_0 rfl rfl ?_
  refine g0 (k := 13) B (vi (si s 0 13)) rfl (fun z => by rw [((hS _).1 z).1 0 (by decide)]; rfl) rfl q369 rfl (fun _ => rfl) dX0_rice_1 ?_
  exact r_iret B dX0_rice_4 h
set_option maxHeartbeats 4000000 in
theorem cw_X0_rice {X : CX} {fr lo : Nat} (h1 : Nat.ble (0 + 1) fr = true) (h2 : Nat.ble (20 + 0) lo = true) : CW X fr lo yX0_rice cX0_rice 1 (some .int) 0 0 0 := ⟨q688, q126, ⟨by decide +kernel, by decide +kernel, by decide +kernel⟩, Nat.le_of_ble_eq_true h1, Nat.le_of_ble_eq_true h2⟩

set_option maxHeartbeats 4000000 in
noncomputable def F_X6_init (s : St) (this : Nat) (p0 : Option Nat) (p1 : Int32) : Option (Unit × St) := gd (isRd s this) <| nam (setR s this 0 p0) fun s2 => gd (isRd s2 this) <| nam (setI s2 this 1 p1) fun s5 => some ((), s5)
set_option maxHeartbeats 4000000 in
theorem c_X6_init {l : Launch} {E : EV} (hE : GE E) (h0 : ∀ σ, eSk E σ) {s s' : St} {r : Unit} {this : Nat} {p0 : Option Nat} {p1 : Int32} (h : F_X6_init  s this p0 p1 = some (r, s')) : CT l E yX6_init cX6_init 3 none 1 20 [vr (some this), vr p0, vi p1] s none s' := by
  refine CT.start hE (by decide) rfl [(0, vr (some this)), (1, vr p0), (2, vi p1)] rfl (fun X hX B => ?_)
  skip
  have B : FX X E cX6_init 3 none "RoseThrow$Reader" "<init>" (sn s) (ss s) 1 20 := B
  unfold F_X6_init at h
  refine r_aload_n (j := 0) B dX6_init_0 rfl rfl ?_
  refine r_objInit B rfl q702 q168 q169 (by decide) (by decide) rfl dX6_init_1 ?_
  refine r_aload_n (j := 0) B dX6_init_4 rfl rfl ?_
  refine r_aload_n (j := 1) B dX6_init_5 rfl rfl ?_
  obtain ⟨hg1, h⟩ := gd_e h
  obtain ⟨s2, e3, h⟩ := nam_e h
  refine pRRdF (k := 0) B e3 rfl (fun _ => isRd_e hg1) rfl q707 q707 rfl rfl rfl rfl rfl rfl rfl (Or.inr ⟨_, rfl⟩) (Or.inr ⟨_, rfl⟩) (fun _ => h0 _) dX6_init_6 ?_
  refine r_aload_n (j := 0) B dX6_init_9 rfl rfl ?_
  refine r_iload_n (j := 2) B dX6_init_10 rfl rfl ?_
  obtain ⟨hg4, h⟩ := gd_e h
  obtain ⟨s5, e6, h⟩ := nam_e h
  refine pIRdF (k := 1) B e6 rfl (fun _ => isRd_e hg4) rfl q708 q708 rfl rfl rfl rfl rfl rfl rfl (fun _ _ _ => rfl) (fun _ _ _ => rfl) rfl rfl dX6_init_11 ?_
  exact r_vret B dX6_init_14 h
set_option maxHeartbeats 4000000 in
theorem cw_X6_init {X : CX} {fr lo : Nat} (h1 : Nat.ble (1 + 1) fr = true) (h2 : Nat.ble (22 + 20) lo = true) : CW X fr lo yX6_init cX6_init 3 none 1 20 2 := ⟨q701, q139, ⟨by decide +kernel, by decide +kernel, by decide +kernel⟩, Nat.le_of_ble_eq_true h1, Nat.le_of_ble_eq_true h2⟩

set_option maxHeartbeats 4000000 in
noncomputable def F_X7_init (s : St) (this : Nat) (p0 : Option Nat) (p1 : Int32) : Option (Unit × St) := bnd (F_X6_init s this p0 p1) fun _ s2 => gd (okN s2 3) <| nam (newO s2 (18, 0) 3) fun s5 => bnd (F_J2_init s5 (sn s2) (2 : Int32)) fun _ s8 => gd (isK s8 this 6) <| nam (setR s8 this 7 (some (sn s2))) fun s11 => some ((), s11)
set_option maxHeartbeats 4000000 in
theorem c_X7_init {l : Launch} {E : EV} (hE : GE E) (h0 : ∀ σ, eSk E σ) {s s' : St} {r : Unit} {this : Nat} {p0 : Option Nat} {p1 : Int32} (h : F_X7_init  s this p0 p1 = some (r, s')) : CT l E yX7_init cX7_init 3 none 4 81 [vr (some this), vr p0, vi p1] s none s' := by
  refine CT.start hE (by decide) rfl [(0, vr (some this)), (1, vr p0), (2, vi p1)] rfl (fun X hX B => ?_)
  skip
  have B : FX X E cX7_init 3 none "RoseThrow$LawReader" "<init>" (sn s) (ss s) 4 81 := B
  unfold F_X7_init at h
  refine r_aload_n (j := 0) B dX7_init_0 rfl rfl ?_
  refine r_aload_n (j := 1) B dX7_init_1 rfl rfl ?_
  refine r_iload_n (j := 2) B dX7_init_2 rfl rfl ?_
  obtain ⟨r1, s2, hc3, h⟩ := bnd_e h
  refine r_callI (As := [vr p0, vi p1]) (rest := []) B rfl rfl EX.same (c_X6_init B.ge h0 hc3) (cw_X6_init rfl rfl) rfl q699 q700 rfl dX7_init_3 ?_
  refine r_aload_n (j := 0) B dX7_init_6 rfl rfl ?_
  obtain ⟨hg4, h⟩ := gd_e h
  obtain ⟨s5, e6, h⟩ := nam_e h
  refine r_new B e6 hg4 (c := 18) rfl (by decide) rfl in_J2 tyJ2_ok rfl q703 q177 q130 (fun _ => h0 _) dX7_init_7 ?_
  refine r_dup B dX7_init_10 rfl ?_
  refine r_iconst (v := 2) B dX7_init_11 (by decide) ?_
  obtain ⟨r7, s8, hc9, h⟩ := bnd_e h
  refine r_callI (As := [vi (2 : Int32)]) (rest := [vr (some (sn s2)), vr (some this)]) B rfl rfl EX.same (c_J2_init B.ge h0 hc9) (cw_J2_init rfl rfl) rfl q704 q179 rfl dX7_init_12 ?_
  obtain ⟨hg10, h⟩ := gd_e h
  obtain ⟨s11, e12, h⟩ := nam_e h
  refine pR6F (k := 7) B e12 rfl (fun _ => isK_e hg10) rfl q705 rfl rfl rfl rfl (Or.inl ⟨_, rfl⟩) (fun _ => h0 _) dX7_init_15 ?_
  exact r_vret B dX7_init_18 h
set_option maxHeartbeats 4000000 in
theorem cw_X7_init {X : CX} {fr lo : Nat} (h1 : Nat.ble (4 + 1) fr = true) (h2 : Nat.ble (22 + 81) lo = true) : CW X fr lo yX7_init cX7_init 3 none 4 81 2 := ⟨q698, q140, ⟨by decide +kernel, by decide +kernel, by decide +kernel⟩, Nat.le_of_ble_eq_true h1, Nat.le_of_ble_eq_true h2⟩

set_option maxHeartbeats 4000000 in
noncomputable def F_X6_isIn (s : St) (this : Nat) (p0 : Int32) (p1 : Int32) (p2 : Int32) : Option (Int32 × St) := gd (isRd s this) <| if (si s this 1) ≤ p0 then (some ((0 : Int32), s)) else (gd (isRd s this) <| drf (sr s this 0) fun a4 => gd (isK s a4 102) <| gd (inb p0 (sk s a4).2) <| if (si s a4 p0.toNatClampNeg) < p1 then (some ((0 : Int32), s)) else (gd (isRd s this) <| drf (sr s this 0) fun a10 => gd (isK s a10 102) <| gd (inb p0 (sk s a10).2) <| if p2 < (si s a10 p0.toNatClampNeg) then (some ((0 : Int32), s)) else (some ((1 : Int32), s))))
set_option maxHeartbeats 4000000 in
theorem c_X6_isIn {l : Launch} {E : EV} (hE : GE E) (h0 : ∀ σ, eSk E σ) {s s' : St} {r : Int32} {this : Nat} {p0 : Int32} {p1 : Int32} {p2 : Int32} (h : F_X6_isIn  s this p0 p1 p2 = some (r, s')) : CT l E yX6_isIn cX6_isIn 4 (some .boolean) 0 0 [vr (some this), vi p0, vi p1, vi p2] s (some (vi r)) s' := by
  refine CT.start hE (by decide) rfl [(0, vr (some this)), (1, vi p0), (2, vi p1), (3, vi p2)] rfl (fun X hX B => ?_)
  skip
  have B : FX X E cX6_isIn 4 (some .boolean) "RoseThrow$Reader" "isIn" (sn s) (ss s) 0 0 := B
  unfold F_X6_isIn at h
  refine r_iload_n (j := 1) B dX6_isIn_0 rfl rfl ?_
  refine r_aload_n (j := 0) B dX6_isIn_1 rfl rfl ?_
  obtain ⟨hg1, h⟩ := gd_e h
  refine gRd (k := 1) B (vi (si s this 1)) rfl (fun _ => isRd_e hg1) rfl q708 q708 rfl rfl rfl rfl dX6_isIn_2 ?_
  refine r_ic_ge (tgt := 32) B dX6_isIn_5 (by decide) (fun cn2 => ?_) (fun cn2 => ?_)
  · have h := ot cn2 h
    refine r_iconst (v := 0) B dX6_isIn_32 (by decide) ?_
    exact r_zret B dX6_isIn_33 (by decide) h
  · have h := of cn2 h
    refine r_aload_n (j := 0) B dX6_isIn_8 rfl rfl ?_
    obtain ⟨hg3, h⟩ := gd_e h
    refine gRd (k := 0) B (vr (sr s this 0)) rfl (fun _ => isRd_e hg3) rfl q707 q707 rfl rfl rfl rfl dX6_isIn_9 ?_
    refine r_iload_n (j := 1) B dX6_isIn_12 rfl rfl ?_
    obtain ⟨a4, ea5, h⟩ := drf_e h
    obtain ⟨hg6, h⟩ := gd_e h
    obtain ⟨hg7, h⟩ := gd_e h
    refine r_bald B ea5 (fun _ => isK_a hg6) hg7 dX6_isIn_13 ?_
    refine r_iload_n (j := 2) B dX6_isIn_14 rfl rfl ?_
    refine r_ic_lt (tgt := 32) B dX6_isIn_15 (by decide) (fun cn8 => ?_) (fun cn8 => ?_)
    · have h := ot cn8 h
      refine r_iconst (v := 0) B dX6_isIn_32 (by decide) ?_
      exact r_zret B dX6_isIn_33 (by decide) h
    · have h := of cn8 h
      refine r_aload_n (j := 0) B dX6_isIn_18 rfl rfl ?_
      obtain ⟨hg9, h⟩ := gd_e h
      refine gRd (k := 0) B (vr (sr s this 0)) rfl (fun _ => isRd_e hg9) rfl q707 q707 rfl rfl rfl rfl dX6_isIn_19 ?_
      refine r_iload_n (j := 1) B dX6_isIn_22 rfl rfl ?_
      obtain ⟨a10, ea11, h⟩ := drf_e h
      obtain ⟨hg12, h⟩ := gd_e h
      obtain ⟨hg13, h⟩ := gd_e h
      refine r_bald B ea11 (fun _ => isK_a hg12) hg13 dX6_isIn_23 ?_
      refine r_iload_n (j := 3) B dX6_isIn_24 rfl rfl ?_
      refine r_ic_gt (tgt := 32) B dX6_isIn_25 (by decide) (fun cn14 => ?_) (fun cn14 => ?_)
      · have h := ot cn14 h
        refine r_iconst (v := 0) B dX6_isIn_32 (by decide) ?_
        exact r_zret B dX6_isIn_33 (by decide) h
      · have h := of cn14 h
        refine r_iconst (v := 1) B dX6_isIn_28 (by decide) ?_
        refine r_goto (tgt := 33) B dX6_isIn_29 (by decide) ?_
        exact r_zret B dX6_isIn_33 (by decide) h
set_option maxHeartbeats 4000000 in
theorem cw_X6_isIn {X : CX} {fr lo : Nat} (h1 : Nat.ble (0 + 1) fr = true) (h2 : Nat.ble (23 + 0) lo = true) : CW X fr lo yX6_isIn cX6_isIn 4 (some .boolean) 0 0 3 := ⟨q753, q139, ⟨by decide +kernel, by decide +kernel, by decide +kernel⟩, Nat.le_of_ble_eq_true h1, Nat.le_of_ble_eq_true h2⟩

set_option maxHeartbeats 4000000 in
noncomputable def F_X6_next_59 : Nat → St → Option Nat → Option (Unit × St)
  | 0 => fun _ _ => none
  | n + 1 => fun s x0 => drf x0 fun a1 => gd (isRd s a1) <| drf x0 fun a4 => gd (isRd s a4) <| bnd (F_X6_isIn s a4 (si s a1 4) (97 : Int32) (122 : Int32)) fun r7 s8 => if r7 = 0 then (some ((), s8)) else (drf x0 fun a11 => gd (isRd s8 a11) <| drf x0 fun a14 => gd (isRd s8 a14) <| nam (setI s8 a14 4 ((si s8 a11 4) + (1 : Int32))) fun s17 => F_X6_next_59  n s17 x0)
set_option maxHeartbeats 4000000 in
theorem w_X6_next_59 {X : CX} {E : EV} {a0 s' : St} {r : Unit} (B : FX X E cX6_next 1 none "RoseThrow$Reader" "next" (sn a0) (ss a0) 1 23) (h0 : ∀ σ, eSk E σ) : ∀ (n : Nat) (s : St) (x0 : Option Nat), F_X6_next_59   n s x0 = some (r, s') → J X E (sn a0) (ss a0) 1 (QR X E a0 none s') s 59 [(0, vr x0)] [] := by
  intro n
  induction n with
  | zero => intro s x0 h; exact absurd (show (none : Option (Unit × St)) = _ from h) (by simp)
  | succ n ih =>
    intro s x0 h
    rw [F_X6_next_59] at h
    refine r_aload_n (j := 0) B dX6_next_59 rfl rfl ?_
    refine r_aload_n (j := 0) B dX6_next_60 rfl rfl ?_
    obtain ⟨a1, ea2, h⟩ := drf_e h
    obtain ⟨hg3, h⟩ := gd_e h
    refine gRd (k := 4) B (vi (si s a1 4)) ea2 (fun _ => isRd_e hg3) rfl q711 q711 rfl rfl rfl rfl dX6_next_61 ?_
    refine r_bipush (v := 97) B dX6_next_64 (by decide) ?_
    refine r_bipush (v := 122) B dX6_next_66 (by decide) ?_
    obtain ⟨a4, ea5, h⟩ := drf_e h
    obtain ⟨hg6, h⟩ := gd_e h
    obtain ⟨r7, s8, hc9, h⟩ := bnd_e h
    refine r_callVv (As := [vi (si s a1 4), vi (97 : Int32), vi (122 : Int32)]) (rest := []) B rfl ea5 EX.same (c_X6_isIn B.ge h0 hc9) (cw_X6_isIn rfl rfl) (fun _ => (isRd_e hg6).elim (fun e => RV.of 6 e rfl rfl q751) (fun e => RV.of 17 e rfl rfl q752)) q748 q749 rfl dX6_next_68 ?_
    refine r_if_eq (tgt := 151) B dX6_next_71 (by decide) (fun cn10 => ?_) (fun cn10 => ?_)
    · have h := ot cn10 h
      exact r_vret B dX6_next_151 h
    · have h := of cn10 h
      refine r_aload_n (j := 0) B dX6_next_74 rfl rfl ?_
      refine r_dup B dX6_next_75 rfl ?_
      obtain ⟨a11, ea12, h⟩ := drf_e h
      obtain ⟨hg13, h⟩ := gd_e h
      refine gRd (k := 4) B (vi (si s8 a11 4)) ea12 (fun _ => isRd_e hg13) rfl q711 q711 rfl rfl rfl rfl dX6_next_76 ?_
      refine r_iconst (v := 1) B dX6_next_79 (by decide) ?_
      refine r_iadd B dX6_next_80 ?_
      obtain ⟨a14, ea15, h⟩ := drf_e h
      obtain ⟨hg16, h⟩ := gd_e h
      obtain ⟨s17, e18, h⟩ := nam_e h
      refine pIRd (k := 4) B e18 ea15 (fun _ => isRd_e hg16) rfl q711 q711 rfl rfl rfl rfl (fun _ _ _ => rfl) (fun _ _ _ => rfl) rfl rfl dX6_next_81 ?_
      refine r_goto (tgt := 59) B dX6_next_84 (by decide) ?_
      exact ih s17 x0 h
set_option maxHeartbeats 4000000 in
noncomputable def F_X6_next_102 : Nat → St → Option Nat → Option (Unit × St)
  | 0 => fun _ _ => none
  | n + 1 => fun s x0 => drf x0 fun a1 => gd (isRd s a1) <| drf x0 fun a4 => gd (isRd s a4) <| bnd (F_X6_isIn s a4 (si s a1 4) (48 : Int32) (57 : Int32)) fun r7 s8 => if r7 = 0 then (some ((), s8)) else (drf x0 fun a11 => gd (isRd s8 a11) <| drf x0 fun a14 => gd (isRd s8 a14) <| nam (setI s8 a14 4 ((si s8 a11 4) + (1 : Int32))) fun s17 => F_X6_next_102  n s17 x0)
set_option maxHeartbeats 4000000 in
theorem w_X6_next_102 {X : CX} {E : EV} {a0 s' : St} {r : Unit} (B : FX X E cX6_next 1 none "RoseThrow$Reader" "next" (sn a0) (ss a0) 1 23) (h0 : ∀ σ, eSk E σ) : ∀ (n : Nat) (s : St) (x0 : Option Nat), F_X6_next_102   n s x0 = some (r, s') → J X E (sn a0) (ss a0) 1 (QR X E a0 none s') s 102 [(0, vr x0)] [] := by
  intro n
  induction n with
  | zero => intro s x0 h; exact absurd (show (none : Option (Unit × St)) = _ from h) (by simp)
  | succ n ih =>
    intro s x0 h
    rw [F_X6_next_102] at h
    refine r_aload_n (j := 0) B dX6_next_102 rfl rfl ?_
    refine r_aload_n (j := 0) B dX6_next_103 rfl rfl ?_
    obtain ⟨a1, ea2, h⟩ := drf_e h
    obtain ⟨hg3, h⟩ := gd_e h
    refine gRd (k := 4) B (vi (si s a1 4)) ea2 (fun _ => isRd_e hg3) rfl q711 q711 rfl rfl rfl rfl dX6_next_104 ?_
    refine r_bipush (v := 48) B dX6_next_107 (by decide) ?_
    refine r_bipush (v := 57) B dX6_next_109 (by decide) ?_
    obtain ⟨a4, ea5, h⟩ := drf_e h
    obtain ⟨hg6, h⟩ := gd_e h
    obtain ⟨r7, s8, hc9, h⟩ := bnd_e h
    refine r_callVv (As := [vi (si s a1 4), vi (48 : Int32), vi (57 : Int32)]) (rest := []) B rfl ea5 EX.same (c_X6_isIn B.ge h0 hc9) (cw_X6_isIn rfl rfl) (fun _ => (isRd_e hg6).elim (fun e => RV.of 6 e rfl rfl q751) (fun e => RV.of 17 e rfl rfl q752)) q748 q749 rfl dX6_next_111 ?_
    refine r_if_eq (tgt := 151) B dX6_next_114 (by decide) (fun cn10 => ?_) (fun cn10 => ?_)
    · have h := ot cn10 h
      exact r_vret B dX6_next_151 h
    · have h := of cn10 h
      refine r_aload_n (j := 0) B dX6_next_117 rfl rfl ?_
      refine r_dup B dX6_next_118 rfl ?_
      obtain ⟨a11, ea12, h⟩ := drf_e h
      obtain ⟨hg13, h⟩ := gd_e h
      refine gRd (k := 4) B (vi (si s8 a11 4)) ea12 (fun _ => isRd_e hg13) rfl q711 q711 rfl rfl rfl rfl dX6_next_119 ?_
      refine r_iconst (v := 1) B dX6_next_122 (by decide) ?_
      refine r_iadd B dX6_next_123 ?_
      obtain ⟨a14, ea15, h⟩ := drf_e h
      obtain ⟨hg16, h⟩ := gd_e h
      obtain ⟨s17, e18, h⟩ := nam_e h
      refine pIRd (k := 4) B e18 ea15 (fun _ => isRd_e hg16) rfl q711 q711 rfl rfl rfl rfl (fun _ _ _ => rfl) (fun _ _ _ => rfl) rfl rfl dX6_next_124 ?_
      refine r_goto (tgt := 102) B dX6_next_127 (by decide) ?_
      exact ih s17 x0 h
set_option maxHeartbeats 4000000 in
noncomputable def F_X6_next_8 : Nat → St → Option Nat → Option (Unit × St)
  | 0 => fun _ _ => none
  | n + 1 => fun s x0 => drf x0 fun a1 => gd (isRd s a1) <| drf x0 fun a4 => gd (isRd s a4) <| bnd (F_X6_isIn s a4 (si s a1 3) (32 : Int32) (32 : Int32)) fun r7 s8 => if r7 = 0 then (drf x0 fun a11 => gd (isRd s8 a11) <| drf x0 fun a14 => gd (isRd s8 a14) <| nam (setI s8 a14 4 (si s8 a11 3)) fun s17 => drf x0 fun a19 => gd (isRd s17 a19) <| drf x0 fun a22 => gd (isRd s17 a22) <| bnd (F_X6_isIn s17 a22 (si s17 a19 3) (97 : Int32) (122 : Int32)) fun r25 s26 => if r25 = 0 then (drf x0 fun a29 => gd (isRd s26 a29) <| drf x0 fun a32 => gd (isRd s26 a32) <| bnd (F_X6_isIn s26 a32 (si s26 a29 3) (48 : Int32) (57 : Int32)) fun r35 s36 => if r35 = 0 then (drf x0 fun a39 => gd (isRd s36 a39) <| drf x0 fun a42 => gd (isRd s36 a42) <| if (si s36 a42 1) ≤ (si s36 a39 3) then (some ((), s36)) else (drf x0 fun a46 => gd (isRd s36 a46) <| drf x0 fun a49 => gd (isRd s36 a49) <| nam (setI s36 a49 4 ((si s36 a46 4) + (1 : Int32))) fun s52 => some ((), s52))) else (F_X6_next_102 FU s36 x0)) else (F_X6_next_59 FU s26 x0)) else (drf x0 fun a54 => gd (isRd s8 a54) <| drf x0 fun a57 => gd (isRd s8 a57) <| nam (setI s8 a57 3 ((si s8 a54 3) + (1 : Int32))) fun s60 => F_X6_next_8  n s60 x0)
set_option maxHeartbeats 4000000 in
theorem w_X6_next_8 {X : CX} {E : EV} {a0 s' : St} {r : Unit} (B : FX X E cX6_next 1 none "RoseThrow$Reader" "next" (sn a0) (ss a0) 1 23) (h0 : ∀ σ, eSk E σ) : ∀ (n : Nat) (s : St) (x0 : Option Nat), F_X6_next_8   n s x0 = some (r, s') → J X E (sn a0) (ss a0) 1 (QR X E a0 none s') s 8 [(0, vr x0)] [] := by
  intro n
  induction n with
  | zero => intro s x0 h; exact absurd (show (none : Option (Unit × St)) = _ from h) (by simp)
  | succ n ih =>
    intro s x0 h
    rw [F_X6_next_8] at h
    refine r_aload_n (j := 0) B dX6_next_8 rfl rfl ?_
    refine r_aload_n (j := 0) B dX6_next_9 rfl rfl ?_
    obtain ⟨a1, ea2, h⟩ := drf_e h
    obtain ⟨hg3, h⟩ := gd_e h
    refine gRd (k := 3) B (vi (si s a1 3)) ea2 (fun _ => isRd_e hg3) rfl q710 q710 rfl rfl rfl rfl dX6_next_10 ?_
    refine r_bipush (v := 32) B dX6_next_13 (by decide) ?_
    refine r_bipush (v := 32) B dX6_next_15 (by decide) ?_
    obtain ⟨a4, ea5, h⟩ := drf_e h
    obtain ⟨hg6, h⟩ := gd_e h
    obtain ⟨r7, s8, hc9, h⟩ := bnd_e h
    refine r_callVv (As := [vi (si s a1 3), vi (32 : Int32), vi (32 : Int32)]) (rest := []) B rfl ea5 EX.same (c_X6_isIn B.ge h0 hc9) (cw_X6_isIn rfl rfl) (fun _ => (isRd_e hg6).elim (fun e => RV.of 6 e rfl rfl q751) (fun e => RV.of 17 e rfl rfl q752)) q748 q749 rfl dX6_next_17 ?_
    refine r_if_eq (tgt := 36) B dX6_next_20 (by decide) (fun cn10 => ?_) (fun cn10 => ?_)
    · have h := ot cn10 h
      refine r_aload_n (j := 0) B dX6_next_36 rfl rfl ?_
      refine r_aload_n (j := 0) B dX6_next_37 rfl rfl ?_
      obtain ⟨a11, ea12, h⟩ := drf_e h
      obtain ⟨hg13, h⟩ := gd_e h
      refine gRd (k := 3) B (vi (si s8 a11 3)) ea12 (fun _ => isRd_e hg13) rfl q710 q710 rfl rfl rfl rfl dX6_next_38 ?_
      obtain ⟨a14, ea15, h⟩ := drf_e h
      obtain ⟨hg16, h⟩ := gd_e h
      obtain ⟨s17, e18, h⟩ := nam_e h
      refine pIRd (k := 4) B e18 ea15 (fun _ => isRd_e hg16) rfl q711 q711 rfl rfl rfl rfl (fun _ _ _ => rfl) (fun _ _ _ => rfl) rfl rfl dX6_next_41 ?_
      refine r_aload_n (j := 0) B dX6_next_44 rfl rfl ?_
      refine r_aload_n (j := 0) B dX6_next_45 rfl rfl ?_
      obtain ⟨a19, ea20, h⟩ := drf_e h
      obtain ⟨hg21, h⟩ := gd_e h
      refine gRd (k := 3) B (vi (si s17 a19 3)) ea20 (fun _ => isRd_e hg21) rfl q710 q710 rfl rfl rfl rfl dX6_next_46 ?_
      refine r_bipush (v := 97) B dX6_next_49 (by decide) ?_
      refine r_bipush (v := 122) B dX6_next_51 (by decide) ?_
      obtain ⟨a22, ea23, h⟩ := drf_e h
      obtain ⟨hg24, h⟩ := gd_e h
      obtain ⟨r25, s26, hc27, h⟩ := bnd_e h
      refine r_callVv (As := [vi (si s17 a19 3), vi (97 : Int32), vi (122 : Int32)]) (rest := []) B rfl ea23 EX.same (c_X6_isIn B.ge h0 hc27) (cw_X6_isIn rfl rfl) (fun _ => (isRd_e hg24).elim (fun e => RV.of 6 e rfl rfl q751) (fun e => RV.of 17 e rfl rfl q752)) q748 q749 rfl dX6_next_53 ?_
      refine r_if_eq (tgt := 87) B dX6_next_56 (by decide) (fun cn28 => ?_) (fun cn28 => ?_)
      · have h := ot cn28 h
        refine r_aload_n (j := 0) B dX6_next_87 rfl rfl ?_
        refine r_aload_n (j := 0) B dX6_next_88 rfl rfl ?_
        obtain ⟨a29, ea30, h⟩ := drf_e h
        obtain ⟨hg31, h⟩ := gd_e h
        refine gRd (k := 3) B (vi (si s26 a29 3)) ea30 (fun _ => isRd_e hg31) rfl q710 q710 rfl rfl rfl rfl dX6_next_89 ?_
        refine r_bipush (v := 48) B dX6_next_92 (by decide) ?_
        refine r_bipush (v := 57) B dX6_next_94 (by decide) ?_
        obtain ⟨a32, ea33, h⟩ := drf_e h
        obtain ⟨hg34, h⟩ := gd_e h
        obtain ⟨r35, s36, hc37, h⟩ := bnd_e h
        refine r_callVv (As := [vi (si s26 a29 3), vi (48 : Int32), vi (57 : Int32)]) (rest := []) B rfl ea33 EX.same (c_X6_isIn B.ge h0 hc37) (cw_X6_isIn rfl rfl) (fun _ => (isRd_e hg34).elim (fun e => RV.of 6 e rfl rfl q751) (fun e => RV.of 17 e rfl rfl q752)) q748 q749 rfl dX6_next_96 ?_
        refine r_if_eq (tgt := 130) B dX6_next_99 (by decide) (fun cn38 => ?_) (fun cn38 => ?_)
        · have h := ot cn38 h
          refine r_aload_n (j := 0) B dX6_next_130 rfl rfl ?_
          obtain ⟨a39, ea40, h⟩ := drf_e h
          obtain ⟨hg41, h⟩ := gd_e h
          refine gRd (k := 3) B (vi (si s36 a39 3)) ea40 (fun _ => isRd_e hg41) rfl q710 q710 rfl rfl rfl rfl dX6_next_131 ?_
          refine r_aload_n (j := 0) B dX6_next_134 rfl rfl ?_
          obtain ⟨a42, ea43, h⟩ := drf_e h
          obtain ⟨hg44, h⟩ := gd_e h
          refine gRd (k := 1) B (vi (si s36 a42 1)) ea43 (fun _ => isRd_e hg44) rfl q708 q708 rfl rfl rfl rfl dX6_next_135 ?_
          refine r_ic_ge (tgt := 151) B dX6_next_138 (by decide) (fun cn45 => ?_) (fun cn45 => ?_)
          · have h := ot cn45 h
            exact r_vret B dX6_next_151 h
          · have h := of cn45 h
            refine r_aload_n (j := 0) B dX6_next_141 rfl rfl ?_
            refine r_dup B dX6_next_142 rfl ?_
            obtain ⟨a46, ea47, h⟩ := drf_e h
            obtain ⟨hg48, h⟩ := gd_e h
            refine gRd (k := 4) B (vi (si s36 a46 4)) ea47 (fun _ => isRd_e hg48) rfl q711 q711 rfl rfl rfl rfl dX6_next_143 ?_
            refine r_iconst (v := 1) B dX6_next_146 (by decide) ?_
            refine r_iadd B dX6_next_147 ?_
            obtain ⟨a49, ea50, h⟩ := drf_e h
            obtain ⟨hg51, h⟩ := gd_e h
            obtain ⟨s52, e53, h⟩ := nam_e h
            refine pIRd (k := 4) B e53 ea50 (fun _ => isRd_e hg51) rfl q711 q711 rfl rfl rfl rfl (fun _ _ _ => rfl) (fun _ _ _ => rfl) rfl rfl dX6_next_148 ?_
            exact r_vret B dX6_next_151 h
        · have h := of cn38 h
          exact w_X6_next_102 B h0 FU s36 x0 h
      · have h := of cn28 h
        exact w_X6_next_59 B h0 FU s26 x0 h
    · have h := of cn10 h
      refine r_aload_n (j := 0) B dX6_next_23 rfl rfl ?_
      refine r_dup B dX6_next_24 rfl ?_
      obtain ⟨a54, ea55, h⟩ := drf_e h
      obtain ⟨hg56, h⟩ := gd_e h
      refine gRd (k := 3) B (vi (si s8 a54 3)) ea55 (fun _ => isRd_e hg56) rfl q710 q710 rfl rfl rfl rfl dX6_next_25 ?_
      refine r_iconst (v := 1) B dX6_next_28 (by decide) ?_
      refine r_iadd B dX6_next_29 ?_
      obtain ⟨a57, ea58, h⟩ := drf_e h
      obtain ⟨hg59, h⟩ := gd_e h
      obtain ⟨s60, e61, h⟩ := nam_e h
      refine pIRd (k := 3) B e61 ea58 (fun _ => isRd_e hg59) rfl q710 q710 rfl rfl rfl rfl (fun _ _ _ => rfl) (fun _ _ _ => rfl) rfl rfl dX6_next_30 ?_
      refine r_goto (tgt := 8) B dX6_next_33 (by decide) ?_
      exact ih s60 x0 h
set_option maxHeartbeats 4000000 in
noncomputable def F_X6_next (s : St) (this : Nat)  : Option (Unit × St) := gd (isRd s this) <| gd (isRd s this) <| nam (setI s this 3 (si s this 4)) fun s3 => F_X6_next_8 FU s3 (some this)
set_option maxHeartbeats 4000000 in
theorem c_X6_next {l : Launch} {E : EV} (hE : GE E) (h0 : ∀ σ, eSk E σ) {s s' : St} {r : Unit} {this : Nat}  (h : F_X6_next  s this = some (r, s')) : CT l E yX6_next cX6_next 1 none 1 23 [vr (some this)] s none s' := by
  refine CT.start hE (by decide) rfl [(0, vr (some this))] rfl (fun X hX B => ?_)
  skip
  have B : FX X E cX6_next 1 none "RoseThrow$Reader" "next" (sn s) (ss s) 1 23 := B
  unfold F_X6_next at h
  refine r_aload_n (j := 0) B dX6_next_0 rfl rfl ?_
  refine r_aload_n (j := 0) B dX6_next_1 rfl rfl ?_
  obtain ⟨hg1, h⟩ := gd_e h
  refine gRd (k := 4) B (vi (si s this 4)) rfl (fun _ => isRd_e hg1) rfl q711 q711 rfl rfl rfl rfl dX6_next_2 ?_
  obtain ⟨hg2, h⟩ := gd_e h
  obtain ⟨s3, e4, h⟩ := nam_e h
  refine pIRd (k := 3) B e4 rfl (fun _ => isRd_e hg2) rfl q710 q710 rfl rfl rfl rfl (fun _ _ _ => rfl) (fun _ _ _ => rfl) rfl rfl dX6_next_5 ?_
  exact w_X6_next_8 B h0 FU s3 (some this) h
set_option maxHeartbeats 4000000 in
theorem cw_X6_next {X : CX} {fr lo : Nat} (h1 : Nat.ble (1 + 1) fr = true) (h2 : Nat.ble (20 + 23) lo = true) : CW X fr lo yX6_next cX6_next 1 none 1 23 0 := ⟨q747, q139, ⟨by decide +kernel, by decide +kernel, by decide +kernel⟩, Nat.le_of_ble_eq_true h1, Nat.le_of_ble_eq_true h2⟩

set_option maxHeartbeats 4000000 in
noncomputable def F_X6_is_20 : Nat → St → Option Nat → Option Nat → Int32 → Option (Int32 × St)
  | 0 => fun _ _ _ _ => none
  | n + 1 => fun s x0 x1 x2 => drf x1 fun a1 => gd (isS a1) <| bnd (F_J7_length s a1) fun r4 s5 => if r4 ≤ x2 then (some ((1 : Int32), s5)) else (drf x0 fun a8 => gd (isRd s5 a8) <| drf x0 fun a11 => gd (isRd s5 a11) <| drf (sr s5 a8 0) fun a14 => gd (isK s5 a14 102) <| gd (inb ((si s5 a11 3) + x2) (sk s5 a14).2) <| drf x1 fun a18 => gd (isS a18) <| bnd (F_J7_charAt s5 a18 x2) fun r21 s22 => if (si s5 a14 ((si s5 a11 3) + x2).toNatClampNeg) = r21 then (F_X6_is_20  n s22 x0 x1 (x2 + (1))) else (some ((0 : Int32), s22)))
set_option maxHeartbeats 4000000 in
theorem w_X6_is_20 {X : CX} {E : EV} {a0 s' : St} {r : Int32} (B : FX X E cX6_is 3 (some .boolean) "RoseThrow$Reader" "is" (sn a0) (ss a0) 5 106) (h0 : ∀ σ, eSk E σ) : ∀ (n : Nat) (s : St) (x0 : Option Nat) (x1 : Option Nat) (x2 : Int32), F_X6_is_20   n s x0 x1 x2 = some (r, s') → J X E (sn a0) (ss a0) 3 (QR X E a0 (some (vi r)) s') s 20 [(0, vr x0), (1, vr x1), (2, vi x2)] [] := by
  intro n
  induction n with
  | zero => intro s x0 x1 x2 h; exact absurd (show (none : Option (Int32 × St)) = _ from h) (by simp)
  | succ n ih =>
    intro s x0 x1 x2 h
    rw [F_X6_is_20] at h
    refine r_iload_n (j := 2) B dX6_is_20 rfl rfl ?_
    refine r_aload_n (j := 1) B dX6_is_21 rfl rfl ?_
    obtain ⟨a1, ea2, h⟩ := drf_e h
    obtain ⟨hg3, h⟩ := gd_e h
    obtain ⟨r4, s5, hc6, h⟩ := bnd_e h
    refine r_callK (As := []) (rest := [vi x2]) B rfl ea2 EX.same (c_J7_length B.ge h0 hc6) (cw_J7_length rfl rfl) hg3 q769 q767 q768 rfl dX6_is_22 ?_
    refine r_ic_ge (tgt := 55) B dX6_is_25 (by decide) (fun cn7 => ?_) (fun cn7 => ?_)
    · have h := ot cn7 h
      refine r_iconst (v := 1) B dX6_is_55 (by decide) ?_
      exact r_zret B dX6_is_56 (by decide) h
    · have h := of cn7 h
      refine r_aload_n (j := 0) B dX6_is_28 rfl rfl ?_
      obtain ⟨a8, ea9, h⟩ := drf_e h
      obtain ⟨hg10, h⟩ := gd_e h
      refine gRd (k := 0) B (vr (sr s5 a8 0)) ea9 (fun _ => isRd_e hg10) rfl q707 q707 rfl rfl rfl rfl dX6_is_29 ?_
      refine r_aload_n (j := 0) B dX6_is_32 rfl rfl ?_
      obtain ⟨a11, ea12, h⟩ := drf_e h
      obtain ⟨hg13, h⟩ := gd_e h
      refine gRd (k := 3) B (vi (si s5 a11 3)) ea12 (fun _ => isRd_e hg13) rfl q710 q710 rfl rfl rfl rfl dX6_is_33 ?_
      refine r_iload_n (j := 2) B dX6_is_36 rfl rfl ?_
      refine r_iadd B dX6_is_37 ?_
      obtain ⟨a14, ea15, h⟩ := drf_e h
      obtain ⟨hg16, h⟩ := gd_e h
      obtain ⟨hg17, h⟩ := gd_e h
      refine r_bald B ea15 (fun _ => isK_a hg16) hg17 dX6_is_38 ?_
      refine r_aload_n (j := 1) B dX6_is_39 rfl rfl ?_
      refine r_iload_n (j := 2) B dX6_is_40 rfl rfl ?_
      obtain ⟨a18, ea19, h⟩ := drf_e h
      obtain ⟨hg20, h⟩ := gd_e h
      obtain ⟨r21, s22, hc23, h⟩ := bnd_e h
      refine r_callK (As := [vi x2]) (rest := [vi (si s5 a14 ((si s5 a11 3) + x2).toNatClampNeg)]) B rfl ea19 EX.same (c_J7_charAt B.ge h0 hc23) (cw_J7_charAt rfl rfl) hg20 q779 q777 q778 rfl dX6_is_41 ?_
      refine r_ic_eq (tgt := 49) B dX6_is_44 (by decide) (fun cn24 => ?_) (fun cn24 => ?_)
      · have h := ot cn24 h
        refine r_iinc (j := 2) (v := (x2 + (1))) (L' := [(0, vr x0), (1, vr x1), (2, vi (x2 + (1)))]) B dX6_is_49 rfl rfl (by decide) rfl rfl rfl ?_
        refine r_goto (tgt := 20) B dX6_is_52 (by decide) ?_
        exact ih s22 x0 x1 (x2 + (1)) h
      · have h := of cn24 h
        refine r_iconst (v := 0) B dX6_is_47 (by decide) ?_
        exact r_zret B dX6_is_48 (by decide) h
set_option maxHeartbeats 4000000 in
noncomputable def F_X6_is (s : St) (this : Nat) (p0 : Option Nat) : Option (Int32 × St) := gd (isRd s this) <| gd (isRd s this) <| drf p0 fun a3 => gd (isS a3) <| bnd (F_J7_length s a3) fun r6 s7 => if ((si s this 4) - (si s this 3)) = r6 then (F_X6_is_20 FU s7 (some this) p0 (0 : Int32)) else (some ((0 : Int32), s7))
set_option maxHeartbeats 4000000 in
theorem c_X6_is {l : Launch} {E : EV} (hE : GE E) (h0 : ∀ σ, eSk E σ) {s s' : St} {r : Int32} {this : Nat} {p0 : Option Nat} (h : F_X6_is  s this p0 = some (r, s')) : CT l E yX6_is cX6_is 3 (some .boolean) 5 106 [vr (some this), vr p0] s (some (vi r)) s' := by
  refine CT.start hE (by decide) rfl [(0, vr (some this)), (1, vr p0)] rfl (fun X hX B => ?_)
  skip
  have B : FX X E cX6_is 3 (some .boolean) "RoseThrow$Reader" "is" (sn s) (ss s) 5 106 := B
  unfold F_X6_is at h
  refine r_aload_n (j := 0) B dX6_is_0 rfl rfl ?_
  obtain ⟨hg1, h⟩ := gd_e h
  refine gRd (k := 4) B (vi (si s this 4)) rfl (fun _ => isRd_e hg1) rfl q711 q711 rfl rfl rfl rfl dX6_is_1 ?_
  refine r_aload_n (j := 0) B dX6_is_4 rfl rfl ?_
  obtain ⟨hg2, h⟩ := gd_e h
  refine gRd (k := 3) B (vi (si s this 3)) rfl (fun _ => isRd_e hg2) rfl q710 q710 rfl rfl rfl rfl dX6_is_5 ?_
  refine r_isub B dX6_is_8 ?_
  refine r_aload_n (j := 1) B dX6_is_9 rfl rfl ?_
  obtain ⟨a3, ea4, h⟩ := drf_e h
  obtain ⟨hg5, h⟩ := gd_e h
  obtain ⟨r6, s7, hc8, h⟩ := bnd_e h
  refine r_callK (As := []) (rest := [vi ((si s this 4) - (si s this 3))]) B rfl ea4 EX.same (c_J7_length B.ge h0 hc8) (cw_J7_length rfl rfl) hg5 q769 q767 q768 rfl dX6_is_10 ?_
  refine r_ic_eq (tgt := 18) B dX6_is_13 (by decide) (fun cn9 => ?_) (fun cn9 => ?_)
  · have h := ot cn9 h
    refine r_iconst (v := 0) B dX6_is_18 (by decide) ?_
    refine r_istore_n (L' := [(0, vr (some this)), (1, vr p0), (2, vi (0 : Int32))]) B dX6_is_19 rfl (by decide) rfl rfl rfl ?_
    exact w_X6_is_20 B h0 FU s7 (some this) p0 (0 : Int32) h
  · have h := of cn9 h
    refine r_iconst (v := 0) B dX6_is_16 (by decide) ?_
    exact r_zret B dX6_is_17 (by decide) h
set_option maxHeartbeats 4000000 in
theorem cw_X6_is {X : CX} {fr lo : Nat} (h1 : Nat.ble (5 + 1) fr = true) (h2 : Nat.ble (22 + 106) lo = true) : CW X fr lo yX6_is cX6_is 3 (some .boolean) 5 106 1 := ⟨q766, q139, ⟨by decide +kernel, by decide +kernel, by decide +kernel⟩, Nat.le_of_ble_eq_true h1, Nat.le_of_ble_eq_true h2⟩

set_option maxHeartbeats 4000000 in
noncomputable def F_X8_init (s : St) (this : Nat) (p0 : Int32) : Option (Unit × St) := bnd (F_J4_init s this none none (0 : Int32) (0 : Int32)) fun _ s2 => gd (isK s2 this 7) <| nam (setI s2 this 6 p0) fun s5 => some ((), s5)
set_option maxHeartbeats 4000000 in
theorem c_X8_init {l : Launch} {E : EV} (hE : GE E) (h0 : ∀ σ, eSk E σ) {s s' : St} {r : Unit} {this : Nat} {p0 : Int32} (h : F_X8_init  s this p0 = some (r, s')) : CT l E yX8_init cX8_init 2 none 3 68 [vr (some this), vi p0] s none s' := by
  refine CT.start hE (by decide) rfl [(0, vr (some this)), (1, vi p0)] rfl (fun X hX B => ?_)
  skip
  have B : FX X E cX8_init 2 none "RoseThrow$Fault" "<init>" (sn s) (ss s) 3 68 := B
  unfold F_X8_init at h
  refine r_aload_n (j := 0) B dX8_init_0 rfl rfl ?_
  refine r_null B dX8_init_1 ?_
  refine r_null B dX8_init_2 ?_
  refine r_iconst (v := 0) B dX8_init_3 (by decide) ?_
  refine r_iconst (v := 0) B dX8_init_4 (by decide) ?_
  obtain ⟨r1, s2, hc3, h⟩ := bnd_e h
  refine r_callI (As := [vr none, vr none, vi (0 : Int32), vi (0 : Int32)]) (rest := []) B rfl rfl EX.same (c_J4_init B.ge h0 hc3) (cw_J4_init rfl rfl) rfl q834 q299 rfl dX8_init_5 ?_
  refine r_aload_n (j := 0) B dX8_init_8 rfl rfl ?_
  refine r_iload_n (j := 1) B dX8_init_9 rfl rfl ?_
  obtain ⟨hg4, h⟩ := gd_e h
  obtain ⟨s5, e6, h⟩ := nam_e h
  refine pI7F (k := 6) B e6 rfl (fun _ => isK_e hg4) rfl q835 rfl rfl rfl rfl (fun _ _ _ => rfl) rfl dX8_init_10 ?_
  exact r_vret B dX8_init_13 h
set_option maxHeartbeats 4000000 in
theorem cw_X8_init {X : CX} {fr lo : Nat} (h1 : Nat.ble (3 + 1) fr = true) (h2 : Nat.ble (21 + 68) lo = true) : CW X fr lo yX8_init cX8_init 2 none 3 68 1 := ⟨q833, q144, ⟨by decide +kernel, by decide +kernel, by decide +kernel⟩, Nat.le_of_ble_eq_true h1, Nat.le_of_ble_eq_true h2⟩

set_option maxHeartbeats 4000000 in
noncomputable def F_X6_begins_13 (s : St) (x0 : Option Nat) : Option ((Unit ⊕ Nat) × St) := gd (okN s 7) <| nam (newO s (7, 0) 7) fun s2 => drf x0 fun a4 => gd (isRd s2 a4) <| bnd (F_X8_init s2 (sn s) (si s2 a4 3)) fun _ s8 => gd (isK s8 (sn s) 7) <| some (.inr (sn s), s8)
set_option maxHeartbeats 4000000 in
theorem w_X6_begins_13 {X : CX} {E : EV} {a0 s' : St} {r : (Unit ⊕ Nat)} (B : FX X E cX6_begins 2 none "RoseThrow$Reader" "begins" (sn a0) (ss a0) 4 89) (ht : ∀ x ∈ (xC X).exceptionTable.toList, False) (h0 : ∀ σ, eSk E σ) (s : St) (x0 : Option Nat) (h : F_X6_begins_13   s x0 = some (r, s')) : J X E (sn a0) (ss a0) 2 (QZ X E a0 (oX (fun v => none) 7 r) s') s 13 [(0, vr x0)] [] := by
  unfold F_X6_begins_13 at h
  obtain ⟨hg1, h⟩ := gd_e h
  obtain ⟨s2, e3, h⟩ := nam_e h
  refine r_new B e3 hg1 (c := 7) rfl (by decide) rfl in_X8 tyX8_ok rfl q822 q823 q144 (fun _ => h0 _) dX6_begins_13 ?_
  refine r_dup B dX6_begins_16 rfl ?_
  refine r_aload_n (j := 0) B dX6_begins_17 rfl rfl ?_
  obtain ⟨a4, ea5, h⟩ := drf_e h
  obtain ⟨hg6, h⟩ := gd_e h
  refine gRd (k := 3) B (vi (si s2 a4 3)) ea5 (fun _ => isRd_e hg6) rfl q710 q710 rfl rfl rfl rfl dX6_begins_18 ?_
  obtain ⟨r7, s8, hc9, h⟩ := bnd_e h
  refine r_callI (As := [vi (si s2 a4 3)]) (rest := [vr (some (sn s))]) B rfl rfl EX.same (c_X8_init B.ge h0 hc9) (cw_X8_init rfl rfl) rfl q831 q832 rfl dX6_begins_21 ?_
  obtain ⟨hg10, h⟩ := gd_e h
  cases h
  exact r_athrow B rfl dX6_begins_24 (r_out B ht (isK_e hg10) rfl (by decide) rfl)
set_option maxHeartbeats 4000000 in
noncomputable def F_X6_begins (s : St) (this : Nat) (p0 : Int32) : Option ((Unit ⊕ Nat) × St) := gd (isRd s this) <| if (si s this 2) = (12 : Int32) then (F_X6_begins_13 s (some this)) else (if p0 = 0 then (F_X6_begins_13 s (some this)) else (gd (isRd s this) <| gd (isRd s this) <| nam (setI s this 2 ((si s this 2) + (1 : Int32))) fun s6 => some (.inl (), s6)))
set_option maxHeartbeats 4000000 in
theorem c_X6_begins {l : Launch} {E : EV} (hE : GE E) (h0 : ∀ σ, eSk E σ) {s s' : St} {r : (Unit ⊕ Nat)} {this : Nat} {p0 : Int32} (h : F_X6_begins  s this p0 = some (r, s')) : CTX l E yX6_begins cX6_begins 2 none 4 89 [vr (some this), vi p0] s (oX (fun v => none) 7 r) s' := by
  refine CTX.start hE (by decide) rfl [(0, vr (some this)), (1, vi p0)] rfl (fun X hX B ht => ?_)
  skip
  have B : FX X E cX6_begins 2 none "RoseThrow$Reader" "begins" (sn s) (ss s) 4 89 := B
  unfold F_X6_begins at h
  refine r_aload_n (j := 0) B dX6_begins_0 rfl rfl ?_
  obtain ⟨hg1, h⟩ := gd_e h
  refine gRd (k := 2) B (vi (si s this 2)) rfl (fun _ => isRd_e hg1) rfl q709 q709 rfl rfl rfl rfl dX6_begins_1 ?_
  refine r_bipush (v := 12) B dX6_begins_4 (by decide) ?_
  refine r_ic_eq (tgt := 13) B dX6_begins_6 (by decide) (fun cn2 => ?_) (fun cn2 => ?_)
  · have h := ot cn2 h
    refine r_pick [0] (L' := [(0, vr (some this))]) rfl ?_
    exact w_X6_begins_13 B ht h0 s (some this) h
  · have h := of cn2 h
    refine r_iload_n (j := 1) B dX6_begins_9 rfl rfl ?_
    refine r_if_ne (tgt := 25) B dX6_begins_10 (by decide) (fun cn3 => ?_) (fun cn3 => ?_)
    · have h := of cn3 h
      refine r_aload_n (j := 0) B dX6_begins_25 rfl rfl ?_
      refine r_dup B dX6_begins_26 rfl ?_
      obtain ⟨hg4, h⟩ := gd_e h
      refine gRd (k := 2) B (vi (si s this 2)) rfl (fun _ => isRd_e hg4) rfl q709 q709 rfl rfl rfl rfl dX6_begins_27 ?_
      refine r_iconst (v := 1) B dX6_begins_30 (by decide) ?_
      refine r_iadd B dX6_begins_31 ?_
      obtain ⟨hg5, h⟩ := gd_e h
      obtain ⟨s6, e7, h⟩ := nam_e h
      refine pIRd (k := 2) B e7 rfl (fun _ => isRd_e hg5) rfl q709 q709 rfl rfl rfl rfl (fun _ _ _ => rfl) (fun _ _ _ => rfl) rfl rfl dX6_begins_32 ?_
      cases h
      exact r_ret (r_vret B dX6_begins_35 rfl)
    · have h := ot cn3 h
      refine r_pick [0] (L' := [(0, vr (some this))]) rfl ?_
      exact w_X6_begins_13 B ht h0 s (some this) h
set_option maxHeartbeats 4000000 in
theorem cw_X6_begins {X : CX} {fr lo : Nat} (h1 : Nat.ble (4 + 1) fr = true) (h2 : Nat.ble (21 + 89) lo = true) : CW X fr lo yX6_begins cX6_begins 2 none 4 89 1 := ⟨q821, q139, ⟨by decide +kernel, by decide +kernel, by decide +kernel⟩, Nat.le_of_ble_eq_true h1, Nat.le_of_ble_eq_true h2⟩

set_option maxHeartbeats 4000000 in
noncomputable def F_X18_init (s : St) (this : Nat) (p0 : Int32) : Option (Unit × St) := gd (isK s this 15) <| nam (setI s this 3 (1 : Int32)) fun s2 => gd (isK s2 this 15) <| nam (setI s2 this 0 p0) fun s5 => some ((), s5)
set_option maxHeartbeats 4000000 in
theorem c_X18_init {l : Launch} {E : EV} (hE : GE E) (h0 : ∀ σ, eSk E σ) {s s' : St} {r : Unit} {this : Nat} {p0 : Int32} (h : F_X18_init  s this p0 = some (r, s')) : CT l E yX18_init cX18_init 2 none 1 20 [vr (some this), vi p0] s none s' := by
  refine CT.start hE (by decide) rfl [(0, vr (some this)), (1, vi p0)] rfl (fun X hX B => ?_)
  skip
  have B : FX X E cX18_init 2 none "RoseThrow$Order" "<init>" (sn s) (ss s) 1 20 := B
  unfold F_X18_init at h
  refine r_aload_n (j := 0) B dX18_init_0 rfl rfl ?_
  refine r_objInit B rfl q1117 q168 q169 (by decide) (by decide) rfl dX18_init_1 ?_
  refine r_aload_n (j := 0) B dX18_init_4 rfl rfl ?_
  refine r_iconst (v := 1) B dX18_init_5 (by decide) ?_
  obtain ⟨hg1, h⟩ := gd_e h
  obtain ⟨s2, e3, h⟩ := nam_e h
  refine pI15 (k := 3) B e3 rfl (fun _ => isK_e hg1) rfl q1124 rfl rfl (fun _ _ _ => rfl) rfl dX18_init_6 ?_
  refine r_aload_n (j := 0) B dX18_init_9 rfl rfl ?_
  refine r_iload_n (j := 1) B dX18_init_10 rfl rfl ?_
  obtain ⟨hg4, h⟩ := gd_e h
  obtain ⟨s5, e6, h⟩ := nam_e h
  refine pI15F (k := 0) B e6 rfl (fun _ => isK_e hg4) rfl q1118 rfl rfl rfl rfl (fun _ _ _ => rfl) rfl dX18_init_11 ?_
  exact r_vret B dX18_init_14 h
set_option maxHeartbeats 4000000 in
theorem cw_X18_init {X : CX} {fr lo : Nat} (h1 : Nat.ble (1 + 1) fr = true) (h2 : Nat.ble (21 + 20) lo = true) : CW X fr lo yX18_init cX18_init 2 none 1 20 1 := ⟨q1116, q158, ⟨by decide +kernel, by decide +kernel, by decide +kernel⟩, Nat.le_of_ble_eq_true h1, Nat.le_of_ble_eq_true h2⟩

